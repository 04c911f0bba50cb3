def fX4_error (x1 : Int32) (S : MS) : Option (Int32 × MS) :=
nm ((-1000000000 : Int32) - x1) fun y1 =>
chk (inB y1 7) (chk (inB y1 7) (nm (sIA S 4 (upd (mIA S 4) (y1).toNatClampNeg ((mIA S 4 (y1).toNatClampNeg) + (1 : Int32)))) fun S4 =>
some (x1, S4)))
set_option maxHeartbeats 4000000 in
set_option maxRecDepth 100000 in
theorem mX4_error {l : Launch} {D : va_G} {cA : Nat → ClassId} {o : Nat → Nat} {A : Nat → Prop} (x1 : Int32) (S : MS) {out : (Int32 × MS)} (h : fX4_error x1 S = some out) : Met l yX4_error (ws_ yX4_error cX4_error 2 (some .int)) ({ frames := 0, cells := 0, slots := 0, locals := 0 } : Room) (gPc (mK D cA) (mP D cA o A) A [.ref (o 24), .int x1] S) (gQi (mK D cA) (mP D cA o A) A out) 0 0 A := by
  refine gMet_z (by decide) (Nat.le_of_ble_eq_true rfl) ?_ mKst
  intro p e s m below meth c Q ls args H locs hC hP hS hl ret
  obtain ⟨hx, hb, hml, hown, hts, hA, hK⟩ := hC
  have hown : s.vm.findClass RX4 = some m.cls := hown
  have hl : lv_has ls 2 [(0, .ref (o 24)), (1, .int x1)] := hl
  unfold fX4_error at h
  refine lv_aload_n hx hb dX4_error_0 rfl (lv_at hl 0 rfl) ?_
  refine va_get (D := D) (ci := 4) (v := .ref (o 4)) (C := RX4) (T := TX4) (N := 24) hx hb hts in_X4 hown hK hP.1 0 rfl rfl 4 (by decide) (hts _ q1253) (fun _ h9 => h9) rfl dX4_error_1 ?_
  refine lv_ldc (v := (-1000000000 : Int32)) hx hb hown (hts _ q1341) dX4_error_4 ?_
  refine lv_iload_n hx hb dX4_error_6 rfl (lv_at hl 1 rfl) ?_
  refine lv_isub hx hb dX4_error_7 ?_
  refine lv_topi (fun y1 ey1 => ?_)
  have h := nm_at ey1 h
  refine lv_dup2_11 hx hb dX4_error_8 rfl rfl ?_
  obtain ⟨g2, h⟩ := chk_some h
  refine va_iald hx hb hK hP.1 4 0 rfl rfl (inB_in g2) dX4_error_9 ?_
  refine lv_iconst (v := (1 : Int32)) hx hb dX4_error_10 (by decide) ?_
  refine lv_iadd hx hb dX4_error_11 ?_
  obtain ⟨g3, h⟩ := chk_some h
  refine va_iast hx hb hK hP.1 hP.2 hS 4 0 rfl rfl (inB_in g3) dX4_error_12 (fun H locs hP1 hD1 hS => ?_)
  obtain ⟨S4, eS4⟩ : ∃ y : MS, y = (sIA S 4 (upd (mIA S 4) (y1).toNatClampNeg ((mIA S 4 (y1).toNatClampNeg) + (1 : Int32)))) := ⟨_, rfl⟩
  have hP : mP D cA o A S4 H := by rw [eS4]; exact ⟨hP1, hD1⟩
  have h := nm_at eS4 h
  refine lv_iload_n hx hb dX4_error_13 rfl (lv_at hl 1 rfl) ?_
  exact ret _ _ _ _ _ _ dX4_error_14 rfl hP hS h

def bX4_as_18 (S : MS) : Option (Int32 × MS) :=
bnd (fX4_error (-1000000001 : Int32) S) fun v3 S2 =>
some (v3, S2)
def bX4_as_88 (t0 : Int32) (S : MS) : Option (Int32 × MS) :=
some (t0, S)
def bX4_as_66 (x1 : Int32) (t0 : Int32) (S : MS) : Option (Int32 × MS) :=
(if t0 = 0 then
bnd (fX4_error (-1000000005 : Int32) S) fun v7 S6 =>
bX4_as_88 v7 S6
else
bnd (fX4_of x1 (1 : Int32) S) fun v10 S9 =>
bX4_as_88 v10 S9)
def bX4_as_61 (x1 : Int32) (S : MS) : Option (Int32 × MS) :=
bX4_as_66 x1 (1 : Int32) S
def bX4_as_65 (x1 : Int32) (S : MS) : Option (Int32 × MS) :=
bX4_as_66 x1 (0 : Int32) S
def bX4_as_51 (x1 : Int32) (x2 : Int32) (x3 : Int32) (S : MS) : Option (Int32 × MS) :=
(if x2 = (2 : Int32) then
(if x3 = (5 : Int32) then
bX4_as_61 x1 S
else
bX4_as_65 x1 S)
else
bX4_as_65 x1 S)
def fX4_as (x1 : Int32) (x2 : Int32) (S : MS) : Option (Int32 × MS) :=
bnd (fX4_isMark x1 S) fun v15 S14 =>
(if v15 = 0 then
bX4_as_18 S14
else
bnd (fX4_in x2 (0 : Int32) (6 : Int32) S14) fun v19 S18 =>
(if v19 = 0 then
bX4_as_18 S18
else
bnd (fX4_of x1 (0 : Int32) S18) fun v23 S22 =>
(if x2 = 0 then
bX4_as_61 x1 S22
else
(if x2 = v23 then
bX4_as_61 x1 S22
else
(if x2 = (1 : Int32) then
(if v23 = (4 : Int32) then
bX4_as_61 x1 S22
else
bX4_as_51 x1 x2 v23 S22)
else
bX4_as_51 x1 x2 v23 S22)))))
set_option maxHeartbeats 4000000 in
set_option maxRecDepth 100000 in
theorem mX4_as {l : Launch} {D : va_G} {cA : Nat → ClassId} {o : Nat → Nat} {A : Nat → Prop} (x1 : Int32) (x2 : Int32) (S : MS) {out : (Int32 × MS)} (h : fX4_as x1 x2 S = some out) : Met l yX4_as (ws_ yX4_as cX4_as 5 (some .int)) ({ frames := 2, cells := 0, slots := 0, locals := 43 } : Room) (gPc (mK D cA) (mP D cA o A) A [.ref (o 24), .int x1, .int x2] S) (gQi (mK D cA) (mP D cA o A) A out) 0 0 A := by
  refine gMet_z (by decide) (Nat.le_of_ble_eq_true rfl) ?_ mKst
  intro p e s m below meth c Q ls args H locs hC hP hS hl ret
  obtain ⟨hx, hb, hml, hown, hts, hA, hK⟩ := hC
  have hown : s.vm.findClass RX4 = some m.cls := hown
  have hl : lv_has ls 5 [(0, .ref (o 24)), (1, .int x1), (2, .int x2)] := hl
  have B18 : ∀  (S : MS) (H : Heap) (locs : List Loc) (ls : Array Slot), mP D cA o A S H → va_S A s.heap H locs → lv_has ls 5 [(0, .ref (o 24))] → bX4_as_18   S = some out → W p l e ({ frames := 2, cells := 0, slots := 0, locals := 43 } : Room) s m args below meth c H locs 0 0 Q (F0 m 18 ls []) := by
    intro  S H locs ls hP hS hl h
    unfold bX4_as_18 at h
    refine lv_aload_n hx hb dX4_as_18 rfl (lv_at hl 0 rfl) ?_
    refine lv_ldc (v := (-1000000001 : Int32)) hx hb hown (hts _ q1336) dX4_as_19 ?_
    obtain ⟨v3, S2, e1, h⟩ := bnd_some h
    refine gc0_i (va_runV (As := [.int (-1000000001 : Int32)]) (rest := []) ⟨hx, hb, hml, hown, hts⟩ (mX4_error (l := l) (D := D) (cA := cA) (o := o) (A := A) (-1000000001 : Int32) S e1) (cwV 1 hts (lw_V q1337 q1339 qs30 q90 q1340) rfl rfl rfl (by decide +kernel) ⟨Nat.le_of_ble_eq_true rfl, Nat.le_of_ble_eq_true rfl⟩) (gPreV mKst hK hA hS hP (mRecv hK hP)) rfl rfl hl.1 rfl (lv_room (Nat.le_of_ble_eq_true rfl)) dX4_as_21 ⟨Nat.zero_le _, Nat.zero_le _⟩) hS (fun H locs hP hS => ?_)
    exact ret _ _ _ _ _ _ dX4_as_24 rfl hP hS h
  have B88 : ∀ (t0 : Int32) (S : MS) (H : Heap) (locs : List Loc) (ls : Array Slot), mP D cA o A S H → va_S A s.heap H locs → lv_has ls 5 [(0, .ref (o 24))] → bX4_as_88  t0 S = some out → W p l e ({ frames := 2, cells := 0, slots := 0, locals := 43 } : Room) s m args below meth c H locs 0 0 Q (F0 m 88 ls [.int t0]) := by
    intro t0 S H locs ls hP hS hl h
    unfold bX4_as_88 at h
    exact ret _ _ _ _ _ _ dX4_as_88 rfl hP hS h
  have B66 : ∀ (x1 : Int32) (t0 : Int32) (S : MS) (H : Heap) (locs : List Loc) (ls : Array Slot), mP D cA o A S H → va_S A s.heap H locs → lv_has ls 5 [(0, .ref (o 24)), (1, .int x1)] → bX4_as_66  x1 t0 S = some out → W p l e ({ frames := 2, cells := 0, slots := 0, locals := 43 } : Room) s m args below meth c H locs 0 0 Q (F0 m 66 ls [.int t0]) := by
    intro x1 t0 S H locs ls hP hS hl h
    unfold bX4_as_66 at h
    refine lv_istore (lv' := [(4, .int t0), (0, .ref (o 24)), (1, .int x1)]) hx hb dX4_as_66 hl (by decide) rfl (fun ls hl => ?_)
    refine lv_iload hx hb dX4_as_68 (lv_at hl 0 rfl) ?_
    refine lv_if_eq (tgt := 82) hx hb dX4_as_70 (by decide) (fun c4 => ?_) (fun c4 => ?_)
    · have h := ite_t c4 h
      refine lv_aload_n hx hb dX4_as_82 rfl (lv_at hl 1 rfl) ?_
      refine lv_ldc (v := (-1000000005 : Int32)) hx hb hown (hts _ q1405) dX4_as_83 ?_
      obtain ⟨v7, S6, e5, h⟩ := bnd_some h
      refine gc0_i (va_runV (As := [.int (-1000000005 : Int32)]) (rest := []) ⟨hx, hb, hml, hown, hts⟩ (mX4_error (l := l) (D := D) (cA := cA) (o := o) (A := A) (-1000000005 : Int32) S e5) (cwV 1 hts (lw_V q1337 q1339 qs30 q90 q1340) rfl rfl rfl (by decide +kernel) ⟨Nat.le_of_ble_eq_true rfl, Nat.le_of_ble_eq_true rfl⟩) (gPreV mKst hK hA hS hP (mRecv hK hP)) rfl rfl hl.1 rfl (lv_room (Nat.le_of_ble_eq_true rfl)) dX4_as_85 ⟨Nat.zero_le _, Nat.zero_le _⟩) hS (fun H locs hP hS => ?_)
      exact B88 v7 S6 _ _ _ hP hS (lv_sub hl [1] rfl) h
    · have h := ite_f c4 h
      refine lv_aload_n hx hb dX4_as_73 rfl (lv_at hl 1 rfl) ?_
      refine lv_iload_n hx hb dX4_as_74 rfl (lv_at hl 2 rfl) ?_
      refine lv_iconst (v := (1 : Int32)) hx hb dX4_as_75 (by decide) ?_
      obtain ⟨v10, S9, e8, h⟩ := bnd_some h
      refine gc0_i (va_runV (As := [.int x1, .int (1 : Int32)]) (rest := []) ⟨hx, hb, hml, hown, hts⟩ (mX4_of (l := l) (D := D) (cA := cA) (o := o) (A := A) x1 (1 : Int32) S e8) (cwV 2 hts (lw_V q1355 q1357 qs33 q90 q1358) rfl rfl rfl (by decide +kernel) ⟨Nat.le_of_ble_eq_true rfl, Nat.le_of_ble_eq_true rfl⟩) (gPreV mKst hK hA hS hP (mRecv hK hP)) rfl rfl hl.1 rfl (lv_room (Nat.le_of_ble_eq_true rfl)) dX4_as_76 ⟨Nat.zero_le _, Nat.zero_le _⟩) hS (fun H locs hP hS => ?_)
      refine lv_goto (tgt := 88) hx hb dX4_as_79 (by decide) ?_
      exact B88 v10 S9 _ _ _ hP hS (lv_sub hl [1] rfl) h
  have B61 : ∀ (x1 : Int32) (S : MS) (H : Heap) (locs : List Loc) (ls : Array Slot), mP D cA o A S H → va_S A s.heap H locs → lv_has ls 5 [(0, .ref (o 24)), (1, .int x1)] → bX4_as_61  x1 S = some out → W p l e ({ frames := 2, cells := 0, slots := 0, locals := 43 } : Room) s m args below meth c H locs 0 0 Q (F0 m 61 ls []) := by
    intro x1 S H locs ls hP hS hl h
    unfold bX4_as_61 at h
    refine lv_iconst (v := (1 : Int32)) hx hb dX4_as_61 (by decide) ?_
    refine lv_goto (tgt := 66) hx hb dX4_as_62 (by decide) ?_
    exact B66 x1 (1 : Int32) S _ _ _ hP hS hl h
  have B65 : ∀ (x1 : Int32) (S : MS) (H : Heap) (locs : List Loc) (ls : Array Slot), mP D cA o A S H → va_S A s.heap H locs → lv_has ls 5 [(0, .ref (o 24)), (1, .int x1)] → bX4_as_65  x1 S = some out → W p l e ({ frames := 2, cells := 0, slots := 0, locals := 43 } : Room) s m args below meth c H locs 0 0 Q (F0 m 65 ls []) := by
    intro x1 S H locs ls hP hS hl h
    unfold bX4_as_65 at h
    refine lv_iconst (v := (0 : Int32)) hx hb dX4_as_65 (by decide) ?_
    exact B66 x1 (0 : Int32) S _ _ _ hP hS hl h
  have B51 : ∀ (x1 : Int32) (x2 : Int32) (x3 : Int32) (S : MS) (H : Heap) (locs : List Loc) (ls : Array Slot), mP D cA o A S H → va_S A s.heap H locs → lv_has ls 5 [(0, .ref (o 24)), (1, .int x1), (2, .int x2), (3, .int x3)] → bX4_as_51  x1 x2 x3 S = some out → W p l e ({ frames := 2, cells := 0, slots := 0, locals := 43 } : Room) s m args below meth c H locs 0 0 Q (F0 m 51 ls []) := by
    intro x1 x2 x3 S H locs ls hP hS hl h
    unfold bX4_as_51 at h
    refine lv_iload_n hx hb dX4_as_51 rfl (lv_at hl 2 rfl) ?_
    refine lv_iconst (v := (2 : Int32)) hx hb dX4_as_52 (by decide) ?_
    refine lv_icmp_ne (tgt := 65) hx hb dX4_as_53 (by decide) (fun c11 => ?_) (fun c11 => ?_)
    · have h := ite_f c11 h
      exact B65 x1 S _ _ _ hP hS (lv_sub hl [0, 1] rfl) h
    · have h := ite_t c11 h
      refine lv_iload_n hx hb dX4_as_56 rfl (lv_at hl 3 rfl) ?_
      refine lv_iconst (v := (5 : Int32)) hx hb dX4_as_57 (by decide) ?_
      refine lv_icmp_ne (tgt := 65) hx hb dX4_as_58 (by decide) (fun c12 => ?_) (fun c12 => ?_)
      · have h := ite_f c12 h
        exact B65 x1 S _ _ _ hP hS (lv_sub hl [0, 1] rfl) h
      · have h := ite_t c12 h
        exact B61 x1 S _ _ _ hP hS (lv_sub hl [0, 1] rfl) h
  unfold fX4_as at h
  refine lv_aload_n hx hb dX4_as_0 rfl (lv_at hl 0 rfl) ?_
  refine lv_iload_n hx hb dX4_as_1 rfl (lv_at hl 1 rfl) ?_
  obtain ⟨v15, S14, e13, h⟩ := bnd_some h
  refine gc0_i (va_runV (As := [.int x1]) (rest := []) ⟨hx, hb, hml, hown, hts⟩ (mX4_isMark (l := l) (D := D) (cA := cA) (o := o) (A := A) x1 S e13) (cwV 1 hts (lw_V q1351 q1353 qs32 q90 q1354) rfl rfl rfl (by decide +kernel) ⟨Nat.le_of_ble_eq_true rfl, Nat.le_of_ble_eq_true rfl⟩) (gPreV mKst hK hA hS hP (mRecv hK hP)) rfl rfl hl.1 rfl (lv_room (Nat.le_of_ble_eq_true rfl)) dX4_as_2 ⟨Nat.zero_le _, Nat.zero_le _⟩) hS (fun H locs hP hS => ?_)
  refine lv_if_eq (tgt := 18) hx hb dX4_as_5 (by decide) (fun c16 => ?_) (fun c16 => ?_)
  · have h := ite_t c16 h
    exact B18 S14 _ _ _ hP hS (lv_sub hl [0] rfl) h
  · have h := ite_f c16 h
    refine lv_iload_n hx hb dX4_as_8 rfl (lv_at hl 2 rfl) ?_
    refine lv_iconst (v := (0 : Int32)) hx hb dX4_as_9 (by decide) ?_
    refine lv_bipush (v := (6 : Int32)) hx hb dX4_as_10 (by decide) ?_
    obtain ⟨v19, S18, e17, h⟩ := bnd_some h
    refine gc0_i (va_runS (As := [.int x2, .int (0 : Int32), .int (6 : Int32)]) (rest := []) ⟨hx, hb, hml, hown, hts⟩ (mX4_in (l := l) (D := D) (cA := cA) (o := o) (A := A) x2 (0 : Int32) (6 : Int32) S14 e17) (va_cwS 3 hts (lw_S q1329 q1330 q90 q1331) rfl rfl rfl (by decide +kernel) ⟨Nat.le_of_ble_eq_true rfl, Nat.le_of_ble_eq_true rfl⟩) (gPreS mKst hK hA hS hP) rfl rfl hl.1 rfl (lv_room (Nat.le_of_ble_eq_true rfl)) dX4_as_12 ⟨Nat.zero_le _, Nat.zero_le _⟩) hS (fun H locs hP hS => ?_)
    refine lv_if_ne (tgt := 25) hx hb dX4_as_15 (by decide) (fun c20 => ?_) (fun c20 => ?_)
    · have h := ite_f c20 h
      refine lv_aload_n hx hb dX4_as_25 rfl (lv_at hl 0 rfl) ?_
      refine lv_iload_n hx hb dX4_as_26 rfl (lv_at hl 1 rfl) ?_
      refine lv_iconst (v := (0 : Int32)) hx hb dX4_as_27 (by decide) ?_
      obtain ⟨v23, S22, e21, h⟩ := bnd_some h
      refine gc0_i (va_runV (As := [.int x1, .int (0 : Int32)]) (rest := []) ⟨hx, hb, hml, hown, hts⟩ (mX4_of (l := l) (D := D) (cA := cA) (o := o) (A := A) x1 (0 : Int32) S18 e21) (cwV 2 hts (lw_V q1355 q1357 qs33 q90 q1358) rfl rfl rfl (by decide +kernel) ⟨Nat.le_of_ble_eq_true rfl, Nat.le_of_ble_eq_true rfl⟩) (gPreV mKst hK hA hS hP (mRecv hK hP)) rfl rfl hl.1 rfl (lv_room (Nat.le_of_ble_eq_true rfl)) dX4_as_28 ⟨Nat.zero_le _, Nat.zero_le _⟩) hS (fun H locs hP hS => ?_)
      refine lv_istore_n (lv' := [(3, .int v23), (0, .ref (o 24)), (1, .int x1), (2, .int x2)]) hx hb dX4_as_31 rfl hl (by decide) rfl (fun ls hl => ?_)
      refine lv_iload_n hx hb dX4_as_32 rfl (lv_at hl 3 rfl) ?_
      refine lv_if_eq (tgt := 61) hx hb dX4_as_33 (by decide) (fun c24 => ?_) (fun c24 => ?_)
      · have h := ite_t c24 h
        exact B61 x1 S22 _ _ _ hP hS (lv_sub hl [1, 2] rfl) h
      · have h := ite_f c24 h
        refine lv_iload_n hx hb dX4_as_36 rfl (lv_at hl 3 rfl) ?_
        refine lv_iload_n hx hb dX4_as_37 rfl (lv_at hl 0 rfl) ?_
        refine lv_icmp_eq (tgt := 61) hx hb dX4_as_38 (by decide) (fun c25 => ?_) (fun c25 => ?_)
        · have h := ite_t c25 h
          exact B61 x1 S22 _ _ _ hP hS (lv_sub hl [1, 2] rfl) h
        · have h := ite_f c25 h
          refine lv_iload_n hx hb dX4_as_41 rfl (lv_at hl 3 rfl) ?_
          refine lv_iconst (v := (1 : Int32)) hx hb dX4_as_42 (by decide) ?_
          refine lv_icmp_ne (tgt := 51) hx hb dX4_as_43 (by decide) (fun c26 => ?_) (fun c26 => ?_)
          · have h := ite_f c26 h
            exact B51 x1 x2 v23 S22 _ _ _ hP hS (lv_sub hl [1, 2, 3, 0] rfl) h
          · have h := ite_t c26 h
            refine lv_iload_n hx hb dX4_as_46 rfl (lv_at hl 0 rfl) ?_
            refine lv_iconst (v := (4 : Int32)) hx hb dX4_as_47 (by decide) ?_
            refine lv_icmp_eq (tgt := 61) hx hb dX4_as_48 (by decide) (fun c27 => ?_) (fun c27 => ?_)
            · have h := ite_t c27 h
              exact B61 x1 S22 _ _ _ hP hS (lv_sub hl [1, 2] rfl) h
            · have h := ite_f c27 h
              exact B51 x1 x2 v23 S22 _ _ _ hP hS (lv_sub hl [1, 2, 3, 0] rfl) h
    · have h := ite_t c20 h
      exact B18 S18 _ _ _ hP hS (lv_sub hl [0] rfl) h

def fX4_isKm (x0 : Int32) (S : MS) : Option (Int32 × MS) :=
bnd (fX4_in x0 (0 : Int32) (69 : Int32) S) fun v3 S2 =>
chk (isB v3) (some (v3, S2))
set_option maxHeartbeats 4000000 in
set_option maxRecDepth 100000 in
theorem mX4_isKm {l : Launch} {D : va_G} {cA : Nat → ClassId} {o : Nat → Nat} {A : Nat → Prop} (x0 : Int32) (S : MS) {out : (Int32 × MS)} (h : fX4_isKm x0 S = some out) : Met l yX4_isKm (ws_ yX4_isKm cX4_isKm 1 (some .boolean)) ({ frames := 1, cells := 0, slots := 0, locals := 22 } : Room) (gPc (mK D cA) (mP D cA o A) A [.int x0] S) (gQi (mK D cA) (mP D cA o A) A out) 0 0 A := by
  refine gMet_z (by decide) (Nat.le_of_ble_eq_true rfl) ?_ mKst
  intro p e s m below meth c Q ls args H locs hC hP hS hl ret
  obtain ⟨hx, hb, hml, hown, hts, hA, hK⟩ := hC
  have hown : s.vm.findClass RX4 = some m.cls := hown
  have hl : lv_has ls 1 [(0, .int x0)] := hl
  unfold fX4_isKm at h
  refine lv_iload_n hx hb dX4_isKm_0 rfl (lv_at hl 0 rfl) ?_
  refine lv_iconst (v := (0 : Int32)) hx hb dX4_isKm_1 (by decide) ?_
  refine lv_bipush (v := (69 : Int32)) hx hb dX4_isKm_2 (by decide) ?_
  obtain ⟨v3, S2, e1, h⟩ := bnd_some h
  refine gc0_i (va_runS (As := [.int x0, .int (0 : Int32), .int (69 : Int32)]) (rest := []) ⟨hx, hb, hml, hown, hts⟩ (mX4_in (l := l) (D := D) (cA := cA) (o := o) (A := A) x0 (0 : Int32) (69 : Int32) S e1) (va_cwS 3 hts (lw_S q1329 q1330 q90 q1331) rfl rfl rfl (by decide +kernel) ⟨Nat.le_of_ble_eq_true rfl, Nat.le_of_ble_eq_true rfl⟩) (gPreS mKst hK hA hS hP) rfl rfl hl.1 rfl (lv_room (Nat.le_of_ble_eq_true rfl)) dX4_isKm_4 ⟨Nat.zero_le _, Nat.zero_le _⟩) hS (fun H locs hP hS => ?_)
  obtain ⟨g4, h⟩ := chk_some h
  exact ret _ _ _ _ _ _ dX4_isKm_7 (isB_nar g4) hP hS h

def fX4_puts (x1 : Int32) (x2 : Int32) (x3 : Int32) (S : MS) : Option MS :=
chk (inB (((8 : Int32) + ((6 : Int32) * x1)) + x2) 382) (nm (sIA S 0 (upd (mIA S 0) ((((8 : Int32) + ((6 : Int32) * x1)) + x2)).toNatClampNeg x3)) fun S2 =>
some S2)
set_option maxHeartbeats 4000000 in
set_option maxRecDepth 100000 in
theorem mX4_puts {l : Launch} {D : va_G} {cA : Nat → ClassId} {o : Nat → Nat} {A : Nat → Prop} (x1 : Int32) (x2 : Int32) (x3 : Int32) (S : MS) {out : MS} (h : fX4_puts x1 x2 x3 S = some out) : Met l yX4_puts (ws_ yX4_puts cX4_puts 4 none) ({ frames := 0, cells := 0, slots := 0, locals := 0 } : Room) (gPc (mK D cA) (mP D cA o A) A [.ref (o 24), .int x1, .int x2, .int x3] S) (gQv (mK D cA) (mP D cA o A) A out) 0 0 A := by
  refine gMet_v (by decide) (Nat.le_of_ble_eq_true rfl) ?_ mKst
  intro p e s m below meth c Q ls args H locs hC hP hS hl _ ret
  obtain ⟨hx, hb, hml, hown, hts, hA, hK⟩ := hC
  have hown : s.vm.findClass RX4 = some m.cls := hown
  have hl : lv_has ls 4 [(0, .ref (o 24)), (1, .int x1), (2, .int x2), (3, .int x3)] := hl
  unfold fX4_puts at h
  refine lv_aload_n hx hb dX4_puts_0 rfl (lv_at hl 0 rfl) ?_
  refine va_get (D := D) (ci := 4) (v := .ref (o 0)) (C := RX4) (T := TX4) (N := 24) hx hb hts in_X4 hown hK hP.1 0 rfl rfl 0 (by decide) (hts _ q1249) (fun _ h9 => h9) rfl dX4_puts_1 ?_
  refine lv_bipush (v := (8 : Int32)) hx hb dX4_puts_4 (by decide) ?_
  refine lv_bipush (v := (6 : Int32)) hx hb dX4_puts_6 (by decide) ?_
  refine lv_iload_n hx hb dX4_puts_8 rfl (lv_at hl 1 rfl) ?_
  refine lv_imul hx hb dX4_puts_9 ?_
  refine lv_iadd hx hb dX4_puts_10 ?_
  refine lv_iload_n hx hb dX4_puts_11 rfl (lv_at hl 2 rfl) ?_
  refine lv_iadd hx hb dX4_puts_12 ?_
  refine lv_iload_n hx hb dX4_puts_13 rfl (lv_at hl 3 rfl) ?_
  obtain ⟨g1, h⟩ := chk_some h
  refine va_iast hx hb hK hP.1 hP.2 hS 1 0 rfl rfl (inB_in g1) dX4_puts_14 (fun H locs hP1 hD1 hS => ?_)
  obtain ⟨S2, eS2⟩ : ∃ y : MS, y = (sIA S 0 (upd (mIA S 0) ((((8 : Int32) + ((6 : Int32) * x1)) + x2)).toNatClampNeg x3)) := ⟨_, rfl⟩
  have hP : mP D cA o A S2 H := by rw [eS2]; exact ⟨hP1, hD1⟩
  have h := nm_at eS2 h
  exact ret _ _ _ _ _ dX4_puts_15 hP hS h

def fX4_becomes (x1 : Int32) (x2 : Int32) (S : MS) : Option (Int32 × MS) :=
chk (inB x1 382) (nm (mIA S 0 (x1).toNatClampNeg) fun y2 =>
chk (inB x1 382) (nm (sIA S 0 (upd (mIA S 0) (x1).toNatClampNeg x2)) fun S4 =>
some (y2, S4)))
set_option maxHeartbeats 4000000 in
set_option maxRecDepth 100000 in
theorem mX4_becomes {l : Launch} {D : va_G} {cA : Nat → ClassId} {o : Nat → Nat} {A : Nat → Prop} (x1 : Int32) (x2 : Int32) (S : MS) {out : (Int32 × MS)} (h : fX4_becomes x1 x2 S = some out) : Met l yX4_becomes (ws_ yX4_becomes cX4_becomes 4 (some .int)) ({ frames := 0, cells := 0, slots := 0, locals := 0 } : Room) (gPc (mK D cA) (mP D cA o A) A [.ref (o 24), .int x1, .int x2] S) (gQi (mK D cA) (mP D cA o A) A out) 0 0 A := by
  refine gMet_z (by decide) (Nat.le_of_ble_eq_true rfl) ?_ mKst
  intro p e s m below meth c Q ls args H locs hC hP hS hl ret
  obtain ⟨hx, hb, hml, hown, hts, hA, hK⟩ := hC
  have hown : s.vm.findClass RX4 = some m.cls := hown
  have hl : lv_has ls 4 [(0, .ref (o 24)), (1, .int x1), (2, .int x2)] := hl
  unfold fX4_becomes at h
  refine lv_aload_n hx hb dX4_becomes_0 rfl (lv_at hl 0 rfl) ?_
  refine va_get (D := D) (ci := 4) (v := .ref (o 0)) (C := RX4) (T := TX4) (N := 24) hx hb hts in_X4 hown hK hP.1 0 rfl rfl 0 (by decide) (hts _ q1249) (fun _ h9 => h9) rfl dX4_becomes_1 ?_
  refine lv_iload_n hx hb dX4_becomes_4 rfl (lv_at hl 1 rfl) ?_
  obtain ⟨g1, h⟩ := chk_some h
  refine va_iald hx hb hK hP.1 1 0 rfl rfl (inB_in g1) dX4_becomes_5 ?_
  refine lv_topi (fun y2 ey2 => ?_)
  have h := nm_at ey2 h
  refine lv_istore_n (lv' := [(3, .int y2), (0, .ref (o 24)), (1, .int x1), (2, .int x2)]) hx hb dX4_becomes_6 rfl hl (by decide) rfl (fun ls hl => ?_)
  refine lv_aload_n hx hb dX4_becomes_7 rfl (lv_at hl 1 rfl) ?_
  refine va_get (D := D) (ci := 4) (v := .ref (o 0)) (C := RX4) (T := TX4) (N := 24) hx hb hts in_X4 hown hK hP.1 0 rfl rfl 0 (by decide) (hts _ q1249) (fun _ h9 => h9) rfl dX4_becomes_8 ?_
  refine lv_iload_n hx hb dX4_becomes_11 rfl (lv_at hl 2 rfl) ?_
  refine lv_iload_n hx hb dX4_becomes_12 rfl (lv_at hl 3 rfl) ?_
  obtain ⟨g3, h⟩ := chk_some h
  refine va_iast hx hb hK hP.1 hP.2 hS 1 0 rfl rfl (inB_in g3) dX4_becomes_13 (fun H locs hP1 hD1 hS => ?_)
  obtain ⟨S4, eS4⟩ : ∃ y : MS, y = (sIA S 0 (upd (mIA S 0) (x1).toNatClampNeg x2)) := ⟨_, rfl⟩
  have hP : mP D cA o A S4 H := by rw [eS4]; exact ⟨hP1, hD1⟩
  have h := nm_at eS4 h
  refine lv_iload_n hx hb dX4_becomes_14 rfl (lv_at hl 0 rfl) ?_
  exact ret _ _ _ _ _ _ dX4_becomes_15 rfl hP hS h

def bX4_become_15 (S : MS) : Option (Int32 × MS) :=
bnd (fX4_error (-1000000001 : Int32) S) fun v3 S2 =>
some (v3, S2)
def fX4_become (x1 : Int32) (x2 : Int32) (S : MS) : Option (Int32 × MS) :=
bnd (fX4_isMark x1 S) fun v6 S5 =>
(if v6 = 0 then
bX4_become_15 S5
else
bnd (fX4_isKm x2 S5) fun v10 S9 =>
(if v10 = 0 then
bX4_become_15 S9
else
bn1 (fX4_puts x1 (1 : Int32) (x2 - x2 / (10 : Int32) * (10 : Int32)) S9) fun S13 =>
bnd (fX4_becomes ((8 : Int32) + ((6 : Int32) * x1)) (x2 / (10 : Int32)) S13) fun v16 S15 =>
some (v16, S15)))
set_option maxHeartbeats 4000000 in
set_option maxRecDepth 100000 in
theorem mX4_become {l : Launch} {D : va_G} {cA : Nat → ClassId} {o : Nat → Nat} {A : Nat → Prop} (x1 : Int32) (x2 : Int32) (S : MS) {out : (Int32 × MS)} (h : fX4_become x1 x2 S = some out) : Met l yX4_become (ws_ yX4_become cX4_become 3 (some .int)) ({ frames := 2, cells := 0, slots := 0, locals := 43 } : Room) (gPc (mK D cA) (mP D cA o A) A [.ref (o 24), .int x1, .int x2] S) (gQi (mK D cA) (mP D cA o A) A out) 0 0 A := by
  refine gMet_z (by decide) (Nat.le_of_ble_eq_true rfl) ?_ mKst
  intro p e s m below meth c Q ls args H locs hC hP hS hl ret
  obtain ⟨hx, hb, hml, hown, hts, hA, hK⟩ := hC
  have hown : s.vm.findClass RX4 = some m.cls := hown
  have hl : lv_has ls 3 [(0, .ref (o 24)), (1, .int x1), (2, .int x2)] := hl
  have B15 : ∀  (S : MS) (H : Heap) (locs : List Loc) (ls : Array Slot), mP D cA o A S H → va_S A s.heap H locs → lv_has ls 3 [(0, .ref (o 24))] → bX4_become_15   S = some out → W p l e ({ frames := 2, cells := 0, slots := 0, locals := 43 } : Room) s m args below meth c H locs 0 0 Q (F0 m 15 ls []) := by
    intro  S H locs ls hP hS hl h
    unfold bX4_become_15 at h
    refine lv_aload_n hx hb dX4_become_15 rfl (lv_at hl 0 rfl) ?_
    refine lv_ldc (v := (-1000000001 : Int32)) hx hb hown (hts _ q1336) dX4_become_16 ?_
    obtain ⟨v3, S2, e1, h⟩ := bnd_some h
    refine gc0_i (va_runV (As := [.int (-1000000001 : Int32)]) (rest := []) ⟨hx, hb, hml, hown, hts⟩ (mX4_error (l := l) (D := D) (cA := cA) (o := o) (A := A) (-1000000001 : Int32) S e1) (cwV 1 hts (lw_V q1337 q1339 qs30 q90 q1340) rfl rfl rfl (by decide +kernel) ⟨Nat.le_of_ble_eq_true rfl, Nat.le_of_ble_eq_true rfl⟩) (gPreV mKst hK hA hS hP (mRecv hK hP)) rfl rfl hl.1 rfl (lv_room (Nat.le_of_ble_eq_true rfl)) dX4_become_18 ⟨Nat.zero_le _, Nat.zero_le _⟩) hS (fun H locs hP hS => ?_)
    exact ret _ _ _ _ _ _ dX4_become_21 rfl hP hS h
  unfold fX4_become at h
  refine lv_aload_n hx hb dX4_become_0 rfl (lv_at hl 0 rfl) ?_
  refine lv_iload_n hx hb dX4_become_1 rfl (lv_at hl 1 rfl) ?_
  obtain ⟨v6, S5, e4, h⟩ := bnd_some h
  refine gc0_i (va_runV (As := [.int x1]) (rest := []) ⟨hx, hb, hml, hown, hts⟩ (mX4_isMark (l := l) (D := D) (cA := cA) (o := o) (A := A) x1 S e4) (cwV 1 hts (lw_V q1351 q1353 qs32 q90 q1354) rfl rfl rfl (by decide +kernel) ⟨Nat.le_of_ble_eq_true rfl, Nat.le_of_ble_eq_true rfl⟩) (gPreV mKst hK hA hS hP (mRecv hK hP)) rfl rfl hl.1 rfl (lv_room (Nat.le_of_ble_eq_true rfl)) dX4_become_2 ⟨Nat.zero_le _, Nat.zero_le _⟩) hS (fun H locs hP hS => ?_)
  refine lv_if_eq (tgt := 15) hx hb dX4_become_5 (by decide) (fun c7 => ?_) (fun c7 => ?_)
  · have h := ite_t c7 h
    exact B15 S5 _ _ _ hP hS (lv_sub hl [0] rfl) h
  · have h := ite_f c7 h
    refine lv_iload_n hx hb dX4_become_8 rfl (lv_at hl 2 rfl) ?_
    obtain ⟨v10, S9, e8, h⟩ := bnd_some h
    refine gc0_i (va_runS (As := [.int x2]) (rest := []) ⟨hx, hb, hml, hown, hts⟩ (mX4_isKm (l := l) (D := D) (cA := cA) (o := o) (A := A) x2 S5 e8) (va_cwS 1 hts (lw_S q1326 q1327 q90 q1328) rfl rfl rfl (by decide +kernel) ⟨Nat.le_of_ble_eq_true rfl, Nat.le_of_ble_eq_true rfl⟩) (gPreS mKst hK hA hS hP) rfl rfl hl.1 rfl (lv_room (Nat.le_of_ble_eq_true rfl)) dX4_become_9 ⟨Nat.zero_le _, Nat.zero_le _⟩) hS (fun H locs hP hS => ?_)
    refine lv_if_ne (tgt := 22) hx hb dX4_become_12 (by decide) (fun c11 => ?_) (fun c11 => ?_)
    · have h := ite_f c11 h
      refine lv_aload_n hx hb dX4_become_22 rfl (lv_at hl 0 rfl) ?_
      refine lv_iload_n hx hb dX4_become_23 rfl (lv_at hl 1 rfl) ?_
      refine lv_iconst (v := (1 : Int32)) hx hb dX4_become_24 (by decide) ?_
      refine lv_iload_n hx hb dX4_become_25 rfl (lv_at hl 2 rfl) ?_
      refine lv_bipush (v := (10 : Int32)) hx hb dX4_become_26 (by decide) ?_
      refine lv_irem hx hb dX4_become_28 (by decide) ?_
      obtain ⟨S13, e12, h⟩ := bn1_some h
      refine gc0_v (va_runV (As := [.int x1, .int (1 : Int32), .int (x2 - x2 / (10 : Int32) * (10 : Int32))]) (rest := []) ⟨hx, hb, hml, hown, hts⟩ (mX4_puts (l := l) (D := D) (cA := cA) (o := o) (A := A) x1 (1 : Int32) (x2 - x2 / (10 : Int32) * (10 : Int32)) S9 e12) (cwV 3 hts (lw_V q1343 q1345 qs31 q90 q1346) rfl rfl rfl (by decide +kernel) ⟨Nat.le_of_ble_eq_true rfl, Nat.le_of_ble_eq_true rfl⟩) (gPreV mKst hK hA hS hP (mRecv hK hP)) rfl rfl hl.1 rfl (lv_room (Nat.le_of_ble_eq_true rfl)) dX4_become_29 ⟨Nat.zero_le _, Nat.zero_le _⟩) hS (fun H locs hP hS => ?_)
      refine lv_aload_n hx hb dX4_become_32 rfl (lv_at hl 0 rfl) ?_
      refine lv_bipush (v := (8 : Int32)) hx hb dX4_become_33 (by decide) ?_
      refine lv_bipush (v := (6 : Int32)) hx hb dX4_become_35 (by decide) ?_
      refine lv_iload_n hx hb dX4_become_37 rfl (lv_at hl 1 rfl) ?_
      refine lv_imul hx hb dX4_become_38 ?_
      refine lv_iadd hx hb dX4_become_39 ?_
      refine lv_iload_n hx hb dX4_become_40 rfl (lv_at hl 2 rfl) ?_
      refine lv_bipush (v := (10 : Int32)) hx hb dX4_become_41 (by decide) ?_
      refine lv_idiv hx hb dX4_become_43 (by decide) ?_
      obtain ⟨v16, S15, e14, h⟩ := bnd_some h
      refine gc0_i (va_runV (As := [.int ((8 : Int32) + ((6 : Int32) * x1)), .int (x2 / (10 : Int32))]) (rest := []) ⟨hx, hb, hml, hown, hts⟩ (mX4_becomes (l := l) (D := D) (cA := cA) (o := o) (A := A) ((8 : Int32) + ((6 : Int32) * x1)) (x2 / (10 : Int32)) S13 e14) (cwV 2 hts (lw_V q1397 q1399 qs41 q90 q1400) rfl rfl rfl (by decide +kernel) ⟨Nat.le_of_ble_eq_true rfl, Nat.le_of_ble_eq_true rfl⟩) (gPreV mKst hK hA hS hP (mRecv hK hP)) rfl rfl hl.1 rfl (lv_room (Nat.le_of_ble_eq_true rfl)) dX4_become_44 ⟨Nat.zero_le _, Nat.zero_le _⟩) hS (fun H locs hP hS => ?_)
      exact ret _ _ _ _ _ _ dX4_become_47 rfl hP hS h
    · have h := ite_t c11 h
      exact B15 S9 _ _ _ hP hS (lv_sub hl [0] rfl) h

def bX4_begins_29 (S : MS) : Option MS :=
some S
def fX4_begins (x1 : Int32) (S : MS) : Option MS :=
(if (30 : Int32) ≤ (mIF S 22) then
bX4_begins_29 S
else
chk (inB (mIF S 22) 30) (nm (sIA S 21 (upd (mIA S 21) ((mIF S 22)).toNatClampNeg x1)) fun S3 =>
nm ((mIF S3 22) + (1 : Int32)) fun y4 =>
bX4_begins_29 (sIF S3 22 y4)))
set_option maxHeartbeats 4000000 in
set_option maxRecDepth 100000 in
theorem mX4_begins {l : Launch} {D : va_G} {cA : Nat → ClassId} {o : Nat → Nat} {A : Nat → Prop} (x1 : Int32) (S : MS) {out : MS} (h : fX4_begins x1 S = some out) : Met l yX4_begins (ws_ yX4_begins cX4_begins 2 none) ({ frames := 0, cells := 0, slots := 0, locals := 0 } : Room) (gPc (mK D cA) (mP D cA o A) A [.ref (o 24), .int x1] S) (gQv (mK D cA) (mP D cA o A) A out) 0 0 A := by
  refine gMet_v (by decide) (Nat.le_of_ble_eq_true rfl) ?_ mKst
  intro p e s m below meth c Q ls args H locs hC hP hS hl _ ret
  obtain ⟨hx, hb, hml, hown, hts, hA, hK⟩ := hC
  have hown : s.vm.findClass RX4 = some m.cls := hown
  have hl : lv_has ls 2 [(0, .ref (o 24)), (1, .int x1)] := hl
  have B29 : ∀  (S : MS) (H : Heap) (locs : List Loc) (ls : Array Slot), mP D cA o A S H → va_S A s.heap H locs → lv_has ls 2 [(0, .ref (o 24))] → bX4_begins_29   S = some out → W p l e ({ frames := 0, cells := 0, slots := 0, locals := 0 } : Room) s m args below meth c H locs 0 0 Q (F0 m 29 ls []) := by
    intro  S H locs ls hP hS hl h
    unfold bX4_begins_29 at h
    exact ret _ _ _ _ _ dX4_begins_29 hP hS h
  unfold fX4_begins at h
  refine lv_aload_n hx hb dX4_begins_0 rfl (lv_at hl 0 rfl) ?_
  refine va_get (D := D) (ci := 4) (v := .int (mIF S 22)) (C := RX4) (T := TX4) (N := 24) hx hb hts in_X4 hown hK hP.1 0 rfl rfl 22 (by decide) (hts _ q1271) (fun _ h9 => h9) rfl dX4_begins_1 ?_
  refine lv_bipush (v := (30 : Int32)) hx hb dX4_begins_4 (by decide) ?_
  refine lv_icmp_ge (tgt := 29) hx hb dX4_begins_6 (by decide) (fun c1 => ?_) (fun c1 => ?_)
  · have h := ite_t c1 h
    exact B29 S _ _ _ hP hS (lv_sub hl [0] rfl) h
  · have h := ite_f c1 h
    refine lv_aload_n hx hb dX4_begins_9 rfl (lv_at hl 0 rfl) ?_
    refine va_get (D := D) (ci := 4) (v := .ref (o 21)) (C := RX4) (T := TX4) (N := 24) hx hb hts in_X4 hown hK hP.1 0 rfl rfl 21 (by decide) (hts _ q1270) (fun _ h9 => h9) rfl dX4_begins_10 ?_
    refine lv_aload_n hx hb dX4_begins_13 rfl (lv_at hl 0 rfl) ?_
    refine va_get (D := D) (ci := 4) (v := .int (mIF S 22)) (C := RX4) (T := TX4) (N := 24) hx hb hts in_X4 hown hK hP.1 0 rfl rfl 22 (by decide) (hts _ q1271) (fun _ h9 => h9) rfl dX4_begins_14 ?_
    refine lv_iload_n hx hb dX4_begins_17 rfl (lv_at hl 1 rfl) ?_
    obtain ⟨g2, h⟩ := chk_some h
    refine va_iast hx hb hK hP.1 hP.2 hS 15 0 rfl rfl (inB_in g2) dX4_begins_18 (fun H locs hP1 hD1 hS => ?_)
    obtain ⟨S3, eS3⟩ : ∃ y : MS, y = (sIA S 21 (upd (mIA S 21) ((mIF S 22)).toNatClampNeg x1)) := ⟨_, rfl⟩
    have hP : mP D cA o A S3 H := by rw [eS3]; exact ⟨hP1, hD1⟩
    have h := nm_at eS3 h
    refine lv_aload_n hx hb dX4_begins_19 rfl (lv_at hl 0 rfl) ?_
    refine lv_dup hx hb dX4_begins_20 rfl ?_
    refine va_get (D := D) (ci := 4) (v := .int (mIF S3 22)) (C := RX4) (T := TX4) (N := 24) hx hb hts in_X4 hown hK hP.1 0 rfl rfl 22 (by decide) (hts _ q1271) (fun _ h9 => h9) rfl dX4_begins_21 ?_
    refine lv_iconst (v := (1 : Int32)) hx hb dX4_begins_24 (by decide) ?_
    refine lv_iadd hx hb dX4_begins_25 ?_
    refine lv_topi (fun y4 ey4 => ?_)
    have h := nm_at ey4 h
    refine va_put (D := D) (ci := 4) (v := .int y4) (ty := .int) (C := RX4) (T := TX4) (N := 24) hx hb hts in_X4 tyX4 tyX4_ok nmX4 hown hK hP.1 hP.2 hS 0 rfl rfl 22 (by decide) (hts _ q1271) (fun _ h9 => h9) rfl (by decide +kernel) rfl rfl (Nat.le_of_ble_eq_true rfl) dX4_begins_26 (fun H locs hP1 hD1 hS => ?_)
    have hP : mP D cA o A (sIF S3 22 y4) H := ⟨hP1, hD1⟩
    exact B29 (sIF S3 22 y4) _ _ _ hP hS (lv_sub hl [0] rfl) h

def bX4_bits_4 (k4 : Int32 → Int32 → MS → Option (Int32 × MS)) (x1 : Int32) (x2 : Int32) (S : MS) : Option (Int32 × MS) :=
(if x2 = 0 then
some (x1, S)
else
nm (x1 + (1 : Int32)) fun y2 =>
nm (x2 &&& (x2 - (1 : Int32))) fun y3 =>
k4 y2 y3 S)
def lX4_bits_4 : Nat → (Int32 → Int32 → MS → Option (Int32 × MS))
  | 0 => fun _ _ _ => none
  | n + 1 => bX4_bits_4 (lX4_bits_4 n)
def fX4_bits (x0 : Int32) (S : MS) : Option (Int32 × MS) :=
lX4_bits_4 FU (0 : Int32) x0 S
set_option maxHeartbeats 4000000 in
set_option maxRecDepth 100000 in
theorem mX4_bits {l : Launch} {D : va_G} {cA : Nat → ClassId} {o : Nat → Nat} {A : Nat → Prop} (x0 : Int32) (S : MS) {out : (Int32 × MS)} (h : fX4_bits x0 S = some out) : Met l yX4_bits (ws_ yX4_bits cX4_bits 3 (some .int)) ({ frames := 0, cells := 0, slots := 0, locals := 0 } : Room) (gPc (mK D cA) (mP D cA o A) A [.int x0] S) (gQi (mK D cA) (mP D cA o A) A out) 0 0 A := by
  refine gMet_z (by decide) (Nat.le_of_ble_eq_true rfl) ?_ mKst
  intro p e s m below meth c Q ls args H locs hC hP hS hl ret
  obtain ⟨hx, hb, hml, hown, hts, hA, hK⟩ := hC
  have hown : s.vm.findClass RX4 = some m.cls := hown
  have hl : lv_has ls 3 [(0, .int x0)] := hl
  have L4 : ∀ (n4 : Nat) (x1 : Int32) (x2 : Int32) (S : MS) (H : Heap) (locs : List Loc) (ls : Array Slot), mP D cA o A S H → va_S A s.heap H locs → lv_has ls 3 [(1, .int x1), (2, .int x2)] → lX4_bits_4 n4 x1 x2 S = some out → W p l e ({ frames := 0, cells := 0, slots := 0, locals := 0 } : Room) s m args below meth c H locs 0 0 Q (F0 m 4 ls []) := by
    intro n4
    induction n4 with
    | zero =>
      intro x1 x2 S H locs ls hP hS hl h
      cases h
    | succ n4 ih4 =>
      intro x1 x2 S H locs ls hP hS hl h
      replace h : bX4_bits_4 (lX4_bits_4 n4) x1 x2 S = some out := h
      unfold bX4_bits_4 at h
      refine lv_iload_n hx hb dX4_bits_4 rfl (lv_at hl 1 rfl) ?_
      refine lv_if_eq (tgt := 20) hx hb dX4_bits_5 (by decide) (fun c1 => ?_) (fun c1 => ?_)
      · have h := ite_t c1 h
        refine lv_iload_n hx hb dX4_bits_20 rfl (lv_at hl 0 rfl) ?_
        exact ret _ _ _ _ _ _ dX4_bits_21 rfl hP hS h
      · have h := ite_f c1 h
        obtain ⟨y2, ey2⟩ : ∃ y : Int32, y = x1 + (1 : Int32) := ⟨_, rfl⟩
        refine lv_iinc (v := y2) (lv' := [(1, .int y2), (2, .int x2)]) hx hb dX4_bits_8 hl (k := 0) rfl (by rw [ey2]; rfl) (by decide) rfl (fun ls hl => ?_)
        have h := nm_at ey2 h
        refine lv_iload_n hx hb dX4_bits_11 rfl (lv_at hl 1 rfl) ?_
        refine lv_iload_n hx hb dX4_bits_12 rfl (lv_at hl 1 rfl) ?_
        refine lv_iconst (v := (1 : Int32)) hx hb dX4_bits_13 (by decide) ?_
        refine lv_isub hx hb dX4_bits_14 ?_
        refine lv_iand hx hb dX4_bits_15 ?_
        refine lv_topi (fun y3 ey3 => ?_)
        have h := nm_at ey3 h
        refine lv_istore_n (lv' := [(2, .int y3), (1, .int y2)]) hx hb dX4_bits_16 rfl hl (by decide) rfl (fun ls hl => ?_)
        refine lv_goto (tgt := 4) hx hb dX4_bits_17 (by decide) ?_
        exact ih4 y2 y3 S _ _ _ hP hS (lv_sub hl [1, 0] rfl) h
  unfold fX4_bits at h
  refine lv_iconst (v := (0 : Int32)) hx hb dX4_bits_0 (by decide) ?_
  refine lv_istore_n (lv' := [(1, .int (0 : Int32)), (0, .int x0)]) hx hb dX4_bits_1 rfl hl (by decide) rfl (fun ls hl => ?_)
  refine lv_iload_n hx hb dX4_bits_2 rfl (lv_at hl 1 rfl) ?_
  refine lv_istore_n (lv' := [(2, .int x0), (1, .int (0 : Int32)), (0, .int x0)]) hx hb dX4_bits_3 rfl hl (by decide) rfl (fun ls hl => ?_)
  exact L4 FU (0 : Int32) x0 S _ _ _ hP hS (lv_sub hl [1, 0] rfl) h

def bX4_body_29 (t0 : Int32) (S : MS) : Option (Int32 × MS) :=
some (t0, S)
def fX4_body (x1 : Int32) (S : MS) : Option (Int32 × MS) :=
bnd (fX4_in x1 (0 : Int32) ((mIF S 22) - (1 : Int32)) S) fun v3 S2 =>
(if v3 = 0 then
bnd (fX4_error (-1000000002 : Int32) S2) fun v7 S6 =>
bX4_body_29 v7 S6
else
chk (inB x1 30) (bX4_body_29 (mIA S2 21 (x1).toNatClampNeg) S2))
set_option maxHeartbeats 4000000 in
set_option maxRecDepth 100000 in
theorem mX4_body {l : Launch} {D : va_G} {cA : Nat → ClassId} {o : Nat → Nat} {A : Nat → Prop} (x1 : Int32) (S : MS) {out : (Int32 × MS)} (h : fX4_body x1 S = some out) : Met l yX4_body (ws_ yX4_body cX4_body 2 (some .int)) ({ frames := 1, cells := 0, slots := 0, locals := 22 } : Room) (gPc (mK D cA) (mP D cA o A) A [.ref (o 24), .int x1] S) (gQi (mK D cA) (mP D cA o A) A out) 0 0 A := by
  refine gMet_z (by decide) (Nat.le_of_ble_eq_true rfl) ?_ mKst
  intro p e s m below meth c Q ls args H locs hC hP hS hl ret
  obtain ⟨hx, hb, hml, hown, hts, hA, hK⟩ := hC
  have hown : s.vm.findClass RX4 = some m.cls := hown
  have hl : lv_has ls 2 [(0, .ref (o 24)), (1, .int x1)] := hl
  have B29 : ∀ (t0 : Int32) (S : MS) (H : Heap) (locs : List Loc) (ls : Array Slot), mP D cA o A S H → va_S A s.heap H locs → lv_has ls 2 [(0, .ref (o 24))] → bX4_body_29  t0 S = some out → W p l e ({ frames := 1, cells := 0, slots := 0, locals := 22 } : Room) s m args below meth c H locs 0 0 Q (F0 m 29 ls [.int t0]) := by
    intro t0 S H locs ls hP hS hl h
    unfold bX4_body_29 at h
    exact ret _ _ _ _ _ _ dX4_body_29 rfl hP hS h
  unfold fX4_body at h
  refine lv_iload_n hx hb dX4_body_0 rfl (lv_at hl 1 rfl) ?_
  refine lv_iconst (v := (0 : Int32)) hx hb dX4_body_1 (by decide) ?_
  refine lv_aload_n hx hb dX4_body_2 rfl (lv_at hl 0 rfl) ?_
  refine va_get (D := D) (ci := 4) (v := .int (mIF S 22)) (C := RX4) (T := TX4) (N := 24) hx hb hts in_X4 hown hK hP.1 0 rfl rfl 22 (by decide) (hts _ q1271) (fun _ h9 => h9) rfl dX4_body_3 ?_
  refine lv_iconst (v := (1 : Int32)) hx hb dX4_body_6 (by decide) ?_
  refine lv_isub hx hb dX4_body_7 ?_
  obtain ⟨v3, S2, e1, h⟩ := bnd_some h
  refine gc0_i (va_runS (As := [.int x1, .int (0 : Int32), .int ((mIF S 22) - (1 : Int32))]) (rest := []) ⟨hx, hb, hml, hown, hts⟩ (mX4_in (l := l) (D := D) (cA := cA) (o := o) (A := A) x1 (0 : Int32) ((mIF S 22) - (1 : Int32)) S e1) (va_cwS 3 hts (lw_S q1329 q1330 q90 q1331) rfl rfl rfl (by decide +kernel) ⟨Nat.le_of_ble_eq_true rfl, Nat.le_of_ble_eq_true rfl⟩) (gPreS mKst hK hA hS hP) rfl rfl hl.1 rfl (lv_room (Nat.le_of_ble_eq_true rfl)) dX4_body_8 ⟨Nat.zero_le _, Nat.zero_le _⟩) hS (fun H locs hP hS => ?_)
  refine lv_if_eq (tgt := 23) hx hb dX4_body_11 (by decide) (fun c4 => ?_) (fun c4 => ?_)
  · have h := ite_t c4 h
    refine lv_aload_n hx hb dX4_body_23 rfl (lv_at hl 0 rfl) ?_
    refine lv_ldc (v := (-1000000002 : Int32)) hx hb hown (hts _ q1613) dX4_body_24 ?_
    obtain ⟨v7, S6, e5, h⟩ := bnd_some h
    refine gc0_i (va_runV (As := [.int (-1000000002 : Int32)]) (rest := []) ⟨hx, hb, hml, hown, hts⟩ (mX4_error (l := l) (D := D) (cA := cA) (o := o) (A := A) (-1000000002 : Int32) S2 e5) (cwV 1 hts (lw_V q1337 q1339 qs30 q90 q1340) rfl rfl rfl (by decide +kernel) ⟨Nat.le_of_ble_eq_true rfl, Nat.le_of_ble_eq_true rfl⟩) (gPreV mKst hK hA hS hP (mRecv hK hP)) rfl rfl hl.1 rfl (lv_room (Nat.le_of_ble_eq_true rfl)) dX4_body_26 ⟨Nat.zero_le _, Nat.zero_le _⟩) hS (fun H locs hP hS => ?_)
    exact B29 v7 S6 _ _ _ hP hS (lv_sub hl [0] rfl) h
  · have h := ite_f c4 h
    refine lv_aload_n hx hb dX4_body_14 rfl (lv_at hl 0 rfl) ?_
    refine va_get (D := D) (ci := 4) (v := .ref (o 21)) (C := RX4) (T := TX4) (N := 24) hx hb hts in_X4 hown hK hP.1 0 rfl rfl 21 (by decide) (hts _ q1270) (fun _ h9 => h9) rfl dX4_body_15 ?_
    refine lv_iload_n hx hb dX4_body_18 rfl (lv_at hl 1 rfl) ?_
    obtain ⟨g8, h⟩ := chk_some h
    refine va_iald hx hb hK hP.1 15 0 rfl rfl (inB_in g8) dX4_body_19 ?_
    refine lv_goto (tgt := 29) hx hb dX4_body_20 (by decide) ?_
    exact B29 (mIA S2 21 (x1).toNatClampNeg) S2 _ _ _ hP hS (lv_sub hl [0] rfl) h

def bX4_check_48 (x2 : Int32) (S : MS) : Option (Int32 × MS) :=
some (((1 : Int32) + x2), S)
def bX4_check_18 (k18 : Int32 → Int32 → MS → Option (Int32 × MS)) (x1 : Int32) (x2 : Int32) (S : MS) : Option (Int32 × MS) :=
(if x1 ≤ x2 then
some ((0 : Int32), S)
else
bnd (fX4_isMark x2 S) fun v4 S3 =>
(if v4 = 0 then
bX4_check_48 x2 S3
else
chk (inB ((116 : Int32) + x2) 382) (bnd (fX4_saysOf x2 S3) fun v9 S8 =>
(if (mIA S3 0 (((116 : Int32) + x2)).toNatClampNeg) = v9 then
nm (x2 + (1 : Int32)) fun y11 =>
k18 x1 y11 S8
else
bX4_check_48 x2 S8))))
def lX4_check_18 : Nat → (Int32 → Int32 → MS → Option (Int32 × MS))
  | 0 => fun _ _ _ => none
  | n + 1 => bX4_check_18 (lX4_check_18 n)
def fX4_check (S : MS) : Option (Int32 × MS) :=
nm (mIA S 0 ((7 : Int32)).toNatClampNeg) fun y12 =>
nm (sIA S 0 (upd (mIA S 0) ((7 : Int32)).toNatClampNeg (0 : Int32))) fun S13 =>
lX4_check_18 FU y12 (0 : Int32) S13
set_option maxHeartbeats 4000000 in
set_option maxRecDepth 100000 in
theorem mX4_check {l : Launch} {D : va_G} {cA : Nat → ClassId} {o : Nat → Nat} {A : Nat → Prop} (S : MS) {out : (Int32 × MS)} (h : fX4_check  S = some out) : Met l yX4_check (ws_ yX4_check cX4_check 3 (some .int)) ({ frames := 4, cells := 0, slots := 0, locals := 93 } : Room) (gPc (mK D cA) (mP D cA o A) A [.ref (o 24)] S) (gQi (mK D cA) (mP D cA o A) A out) 0 0 A := by
  refine gMet_z (by decide) (Nat.le_of_ble_eq_true rfl) ?_ mKst
  intro p e s m below meth c Q ls args H locs hC hP hS hl ret
  obtain ⟨hx, hb, hml, hown, hts, hA, hK⟩ := hC
  have hown : s.vm.findClass RX4 = some m.cls := hown
  have hl : lv_has ls 3 [(0, .ref (o 24))] := hl
  have B48 : ∀ (x2 : Int32) (S : MS) (H : Heap) (locs : List Loc) (ls : Array Slot), mP D cA o A S H → va_S A s.heap H locs → lv_has ls 3 [(0, .ref (o 24)), (2, .int x2)] → bX4_check_48  x2 S = some out → W p l e ({ frames := 4, cells := 0, slots := 0, locals := 93 } : Room) s m args below meth c H locs 0 0 Q (F0 m 48 ls []) := by
    intro x2 S H locs ls hP hS hl h
    unfold bX4_check_48 at h
    refine lv_iconst (v := (1 : Int32)) hx hb dX4_check_48 (by decide) ?_
    refine lv_iload_n hx hb dX4_check_49 rfl (lv_at hl 1 rfl) ?_
    refine lv_iadd hx hb dX4_check_50 ?_
    exact ret _ _ _ _ _ _ dX4_check_51 rfl hP hS h
  have L18 : ∀ (n18 : Nat) (x1 : Int32) (x2 : Int32) (S : MS) (H : Heap) (locs : List Loc) (ls : Array Slot), mP D cA o A S H → va_S A s.heap H locs → lv_has ls 3 [(0, .ref (o 24)), (1, .int x1), (2, .int x2)] → lX4_check_18 n18 x1 x2 S = some out → W p l e ({ frames := 4, cells := 0, slots := 0, locals := 93 } : Room) s m args below meth c H locs 0 0 Q (F0 m 18 ls []) := by
    intro n18
    induction n18 with
    | zero =>
      intro x1 x2 S H locs ls hP hS hl h
      cases h
    | succ n18 ih18 =>
      intro x1 x2 S H locs ls hP hS hl h
      replace h : bX4_check_18 (lX4_check_18 n18) x1 x2 S = some out := h
      unfold bX4_check_18 at h
      refine lv_iload_n hx hb dX4_check_18 rfl (lv_at hl 2 rfl) ?_
      refine lv_iload_n hx hb dX4_check_19 rfl (lv_at hl 1 rfl) ?_
      refine lv_icmp_ge (tgt := 58) hx hb dX4_check_20 (by decide) (fun c1 => ?_) (fun c1 => ?_)
      · have h := ite_t c1 h
        refine lv_iconst (v := (0 : Int32)) hx hb dX4_check_58 (by decide) ?_
        exact ret _ _ _ _ _ _ dX4_check_59 rfl hP hS h
      · have h := ite_f c1 h
        refine lv_aload_n hx hb dX4_check_23 rfl (lv_at hl 0 rfl) ?_
        refine lv_iload_n hx hb dX4_check_24 rfl (lv_at hl 2 rfl) ?_
        obtain ⟨v4, S3, e2, h⟩ := bnd_some h
        refine gc0_i (va_runV (As := [.int x2]) (rest := []) ⟨hx, hb, hml, hown, hts⟩ (mX4_isMark (l := l) (D := D) (cA := cA) (o := o) (A := A) x2 S e2) (cwV 1 hts (lw_V q1351 q1353 qs32 q90 q1354) rfl rfl rfl (by decide +kernel) ⟨Nat.le_of_ble_eq_true rfl, Nat.le_of_ble_eq_true rfl⟩) (gPreV mKst hK hA hS hP (mRecv hK hP)) rfl rfl hl.1 rfl (lv_room (Nat.le_of_ble_eq_true rfl)) dX4_check_25 ⟨Nat.zero_le _, Nat.zero_le _⟩) hS (fun H locs hP hS => ?_)
        refine lv_if_eq (tgt := 48) hx hb dX4_check_28 (by decide) (fun c5 => ?_) (fun c5 => ?_)
        · have h := ite_t c5 h
          exact B48 x2 S3 _ _ _ hP hS (lv_sub hl [0, 2] rfl) h
        · have h := ite_f c5 h
          refine lv_aload_n hx hb dX4_check_31 rfl (lv_at hl 0 rfl) ?_
          refine va_get (D := D) (ci := 4) (v := .ref (o 0)) (C := RX4) (T := TX4) (N := 24) hx hb hts in_X4 hown hK hP.1 0 rfl rfl 0 (by decide) (hts _ q1249) (fun _ h9 => h9) rfl dX4_check_32 ?_
          refine lv_bipush (v := (116 : Int32)) hx hb dX4_check_35 (by decide) ?_
          refine lv_iload_n hx hb dX4_check_37 rfl (lv_at hl 2 rfl) ?_
          refine lv_iadd hx hb dX4_check_38 ?_
          obtain ⟨g6, h⟩ := chk_some h
          refine va_iald hx hb hK hP.1 1 0 rfl rfl (inB_in g6) dX4_check_39 ?_
          refine lv_aload_n hx hb dX4_check_40 rfl (lv_at hl 0 rfl) ?_
          refine lv_iload_n hx hb dX4_check_41 rfl (lv_at hl 2 rfl) ?_
          obtain ⟨v9, S8, e7, h⟩ := bnd_some h
          refine gc0_i (va_runV (As := [.int x2]) (rest := [.int (mIA S3 0 (((116 : Int32) + x2)).toNatClampNeg)]) ⟨hx, hb, hml, hown, hts⟩ (mX4_saysOf (l := l) (D := D) (cA := cA) (o := o) (A := A) x2 S3 e7) (cwV 1 hts (lw_V q1385 q1387 qs39 q90 q1388) rfl rfl rfl (by decide +kernel) ⟨Nat.le_of_ble_eq_true rfl, Nat.le_of_ble_eq_true rfl⟩) (gPreV mKst hK hA hS hP (mRecv hK hP)) rfl rfl hl.1 rfl (lv_room (Nat.le_of_ble_eq_true rfl)) dX4_check_42 ⟨Nat.zero_le _, Nat.zero_le _⟩) hS (fun H locs hP hS => ?_)
          refine lv_icmp_eq (tgt := 52) hx hb dX4_check_45 (by decide) (fun c10 => ?_) (fun c10 => ?_)
          · have h := ite_t c10 h
            obtain ⟨y11, ey11⟩ : ∃ y : Int32, y = x2 + (1 : Int32) := ⟨_, rfl⟩
            refine lv_iinc (v := y11) (lv' := [(2, .int y11), (0, .ref (o 24)), (1, .int x1)]) hx hb dX4_check_52 hl (k := 2) rfl (by rw [ey11]; rfl) (by decide) rfl (fun ls hl => ?_)
            have h := nm_at ey11 h
            refine lv_goto (tgt := 18) hx hb dX4_check_55 (by decide) ?_
            exact ih18 x1 y11 S8 _ _ _ hP hS (lv_sub hl [1, 2, 0] rfl) h
          · have h := ite_f c10 h
            exact B48 x2 S8 _ _ _ hP hS (lv_sub hl [0, 2] rfl) h
  unfold fX4_check at h
  refine lv_aload_n hx hb dX4_check_0 rfl (lv_at hl 0 rfl) ?_
  refine va_get (D := D) (ci := 4) (v := .ref (o 0)) (C := RX4) (T := TX4) (N := 24) hx hb hts in_X4 hown hK hP.1 0 rfl rfl 0 (by decide) (hts _ q1249) (fun _ h9 => h9) rfl dX4_check_1 ?_
  refine lv_bipush (v := (7 : Int32)) hx hb dX4_check_4 (by decide) ?_
  refine va_iald hx hb hK hP.1 1 0 rfl rfl (inB_in (by decide)) dX4_check_6 ?_
  refine lv_topi (fun y12 ey12 => ?_)
  have h := nm_at ey12 h
  refine lv_istore_n (lv' := [(1, .int y12), (0, .ref (o 24))]) hx hb dX4_check_7 rfl hl (by decide) rfl (fun ls hl => ?_)
  refine lv_aload_n hx hb dX4_check_8 rfl (lv_at hl 1 rfl) ?_
  refine va_get (D := D) (ci := 4) (v := .ref (o 0)) (C := RX4) (T := TX4) (N := 24) hx hb hts in_X4 hown hK hP.1 0 rfl rfl 0 (by decide) (hts _ q1249) (fun _ h9 => h9) rfl dX4_check_9 ?_
  refine lv_bipush (v := (7 : Int32)) hx hb dX4_check_12 (by decide) ?_
  refine lv_iconst (v := (0 : Int32)) hx hb dX4_check_14 (by decide) ?_
  refine va_iast hx hb hK hP.1 hP.2 hS 1 0 rfl rfl (inB_in (by decide)) dX4_check_15 (fun H locs hP1 hD1 hS => ?_)
  obtain ⟨S13, eS13⟩ : ∃ y : MS, y = (sIA S 0 (upd (mIA S 0) ((7 : Int32)).toNatClampNeg (0 : Int32))) := ⟨_, rfl⟩
  have hP : mP D cA o A S13 H := by rw [eS13]; exact ⟨hP1, hD1⟩
  have h := nm_at eS13 h
  refine lv_iconst (v := (0 : Int32)) hx hb dX4_check_16 (by decide) ?_
  refine lv_istore_n (lv' := [(2, .int (0 : Int32)), (1, .int y12), (0, .ref (o 24))]) hx hb dX4_check_17 rfl hl (by decide) rfl (fun ls hl => ?_)
  exact L18 FU y12 (0 : Int32) S13 _ _ _ hP hS (lv_sub hl [2, 1, 0] rfl) h

def bX4_copyAll_0_2_2 (k2 : Int32 → MS → Option MS) (x2 : Int32) (S : MS) : Option MS :=
(if (382 : Int32) ≤ x2 then
some S
else
chk (inB x2 382) (chk (inB x2 382) (nm (sIA S 2 (upd (mIA S 2) (x2).toNatClampNeg (mIA S 0 (x2).toNatClampNeg))) fun S4 =>
nm (x2 + (1 : Int32)) fun y5 =>
k2 y5 S4)))
def lX4_copyAll_0_2_2 : Nat → (Int32 → MS → Option MS)
  | 0 => fun _ _ => none
  | n + 1 => bX4_copyAll_0_2_2 (lX4_copyAll_0_2_2 n)
def fX4_copyAll_0_2 (S : MS) : Option MS :=
lX4_copyAll_0_2_2 FU (0 : Int32) S
set_option maxHeartbeats 4000000 in
set_option maxRecDepth 100000 in
theorem mX4_copyAll_0_2 {l : Launch} {D : va_G} {cA : Nat → ClassId} {o : Nat → Nat} {A : Nat → Prop} (S : MS) {out : MS} (h : fX4_copyAll_0_2  S = some out) : Met l yX4_copyAll (ws_ yX4_copyAll cX4_copyAll 3 none) ({ frames := 0, cells := 0, slots := 0, locals := 0 } : Room) (gPc (mK D cA) (mP D cA o A) A [.ref (o 0), .ref (o 2)] S) (gQv (mK D cA) (mP D cA o A) A out) 0 0 A := by
  refine gMet_v (by decide) (Nat.le_of_ble_eq_true rfl) ?_ mKst
  intro p e s m below meth c Q ls args H locs hC hP hS hl _ ret
  obtain ⟨hx, hb, hml, hown, hts, hA, hK⟩ := hC
  have hown : s.vm.findClass RX4 = some m.cls := hown
  have hl : lv_has ls 3 [(0, .ref (o 0)), (1, .ref (o 2))] := hl
  have L2 : ∀ (n2 : Nat) (x2 : Int32) (S : MS) (H : Heap) (locs : List Loc) (ls : Array Slot), mP D cA o A S H → va_S A s.heap H locs → lv_has ls 3 [(0, .ref (o 0)), (1, .ref (o 2)), (2, .int x2)] → lX4_copyAll_0_2_2 n2 x2 S = some out → W p l e ({ frames := 0, cells := 0, slots := 0, locals := 0 } : Room) s m args below meth c H locs 0 0 Q (F0 m 2 ls []) := by
    intro n2
    induction n2 with
    | zero =>
      intro x2 S H locs ls hP hS hl h
      cases h
    | succ n2 ih2 =>
      intro x2 S H locs ls hP hS hl h
      replace h : bX4_copyAll_0_2_2 (lX4_copyAll_0_2_2 n2) x2 S = some out := h
      unfold bX4_copyAll_0_2_2 at h
      refine lv_iload_n hx hb dX4_copyAll_2 rfl (lv_at hl 2 rfl) ?_
      refine lv_sipush (v := (382 : Int32)) hx hb dX4_copyAll_3 (by decide) ?_
      refine lv_icmp_ge (tgt := 21) hx hb dX4_copyAll_6 (by decide) (fun c1 => ?_) (fun c1 => ?_)
      · have h := ite_t c1 h
        exact ret _ _ _ _ _ dX4_copyAll_21 hP hS h
      · have h := ite_f c1 h
        refine lv_aload_n hx hb dX4_copyAll_9 rfl (lv_at hl 1 rfl) ?_
        refine lv_iload_n hx hb dX4_copyAll_10 rfl (lv_at hl 2 rfl) ?_
        refine lv_aload_n hx hb dX4_copyAll_11 rfl (lv_at hl 0 rfl) ?_
        refine lv_iload_n hx hb dX4_copyAll_12 rfl (lv_at hl 2 rfl) ?_
        obtain ⟨g2, h⟩ := chk_some h
        refine va_iald hx hb hK hP.1 1 0 rfl rfl (inB_in g2) dX4_copyAll_13 ?_
        obtain ⟨g3, h⟩ := chk_some h
        refine va_iast hx hb hK hP.1 hP.2 hS 3 0 rfl rfl (inB_in g3) dX4_copyAll_14 (fun H locs hP1 hD1 hS => ?_)
        obtain ⟨S4, eS4⟩ : ∃ y : MS, y = (sIA S 2 (upd (mIA S 2) (x2).toNatClampNeg (mIA S 0 (x2).toNatClampNeg))) := ⟨_, rfl⟩
        have hP : mP D cA o A S4 H := by rw [eS4]; exact ⟨hP1, hD1⟩
        have h := nm_at eS4 h
        obtain ⟨y5, ey5⟩ : ∃ y : Int32, y = x2 + (1 : Int32) := ⟨_, rfl⟩
        refine lv_iinc (v := y5) (lv' := [(2, .int y5), (0, .ref (o 0)), (1, .ref (o 2))]) hx hb dX4_copyAll_15 hl (k := 2) rfl (by rw [ey5]; rfl) (by decide) rfl (fun ls hl => ?_)
        have h := nm_at ey5 h
        refine lv_goto (tgt := 2) hx hb dX4_copyAll_18 (by decide) ?_
        exact ih2 y5 S4 _ _ _ hP hS (lv_sub hl [1, 2, 0] rfl) h
  unfold fX4_copyAll_0_2 at h
  refine lv_iconst (v := (0 : Int32)) hx hb dX4_copyAll_0 (by decide) ?_
  refine lv_istore_n (lv' := [(2, .int (0 : Int32)), (0, .ref (o 0)), (1, .ref (o 2))]) hx hb dX4_copyAll_1 rfl hl (by decide) rfl (fun ls hl => ?_)
  exact L2 FU (0 : Int32) S _ _ _ hP hS (lv_sub hl [1, 2, 0] rfl) h

def bX4_copyAll_2_0_2 (k2 : Int32 → MS → Option MS) (x2 : Int32) (S : MS) : Option MS :=
(if (382 : Int32) ≤ x2 then
some S
else
chk (inB x2 382) (chk (inB x2 382) (nm (sIA S 0 (upd (mIA S 0) (x2).toNatClampNeg (mIA S 2 (x2).toNatClampNeg))) fun S4 =>
nm (x2 + (1 : Int32)) fun y5 =>
k2 y5 S4)))
def lX4_copyAll_2_0_2 : Nat → (Int32 → MS → Option MS)
  | 0 => fun _ _ => none
  | n + 1 => bX4_copyAll_2_0_2 (lX4_copyAll_2_0_2 n)
def fX4_copyAll_2_0 (S : MS) : Option MS :=
lX4_copyAll_2_0_2 FU (0 : Int32) S
set_option maxHeartbeats 4000000 in
set_option maxRecDepth 100000 in
theorem mX4_copyAll_2_0 {l : Launch} {D : va_G} {cA : Nat → ClassId} {o : Nat → Nat} {A : Nat → Prop} (S : MS) {out : MS} (h : fX4_copyAll_2_0  S = some out) : Met l yX4_copyAll (ws_ yX4_copyAll cX4_copyAll 3 none) ({ frames := 0, cells := 0, slots := 0, locals := 0 } : Room) (gPc (mK D cA) (mP D cA o A) A [.ref (o 2), .ref (o 0)] S) (gQv (mK D cA) (mP D cA o A) A out) 0 0 A := by
  refine gMet_v (by decide) (Nat.le_of_ble_eq_true rfl) ?_ mKst
  intro p e s m below meth c Q ls args H locs hC hP hS hl _ ret
  obtain ⟨hx, hb, hml, hown, hts, hA, hK⟩ := hC
  have hown : s.vm.findClass RX4 = some m.cls := hown
  have hl : lv_has ls 3 [(0, .ref (o 2)), (1, .ref (o 0))] := hl
  have L2 : ∀ (n2 : Nat) (x2 : Int32) (S : MS) (H : Heap) (locs : List Loc) (ls : Array Slot), mP D cA o A S H → va_S A s.heap H locs → lv_has ls 3 [(0, .ref (o 2)), (1, .ref (o 0)), (2, .int x2)] → lX4_copyAll_2_0_2 n2 x2 S = some out → W p l e ({ frames := 0, cells := 0, slots := 0, locals := 0 } : Room) s m args below meth c H locs 0 0 Q (F0 m 2 ls []) := by
    intro n2
    induction n2 with
    | zero =>
      intro x2 S H locs ls hP hS hl h
      cases h
    | succ n2 ih2 =>
      intro x2 S H locs ls hP hS hl h
      replace h : bX4_copyAll_2_0_2 (lX4_copyAll_2_0_2 n2) x2 S = some out := h
      unfold bX4_copyAll_2_0_2 at h
      refine lv_iload_n hx hb dX4_copyAll_2 rfl (lv_at hl 2 rfl) ?_
      refine lv_sipush (v := (382 : Int32)) hx hb dX4_copyAll_3 (by decide) ?_
      refine lv_icmp_ge (tgt := 21) hx hb dX4_copyAll_6 (by decide) (fun c1 => ?_) (fun c1 => ?_)
      · have h := ite_t c1 h
        exact ret _ _ _ _ _ dX4_copyAll_21 hP hS h
      · have h := ite_f c1 h
        refine lv_aload_n hx hb dX4_copyAll_9 rfl (lv_at hl 1 rfl) ?_
        refine lv_iload_n hx hb dX4_copyAll_10 rfl (lv_at hl 2 rfl) ?_
        refine lv_aload_n hx hb dX4_copyAll_11 rfl (lv_at hl 0 rfl) ?_
        refine lv_iload_n hx hb dX4_copyAll_12 rfl (lv_at hl 2 rfl) ?_
        obtain ⟨g2, h⟩ := chk_some h
        refine va_iald hx hb hK hP.1 3 0 rfl rfl (inB_in g2) dX4_copyAll_13 ?_
        obtain ⟨g3, h⟩ := chk_some h
        refine va_iast hx hb hK hP.1 hP.2 hS 1 0 rfl rfl (inB_in g3) dX4_copyAll_14 (fun H locs hP1 hD1 hS => ?_)
        obtain ⟨S4, eS4⟩ : ∃ y : MS, y = (sIA S 0 (upd (mIA S 0) (x2).toNatClampNeg (mIA S 2 (x2).toNatClampNeg))) := ⟨_, rfl⟩
        have hP : mP D cA o A S4 H := by rw [eS4]; exact ⟨hP1, hD1⟩
        have h := nm_at eS4 h
        obtain ⟨y5, ey5⟩ : ∃ y : Int32, y = x2 + (1 : Int32) := ⟨_, rfl⟩
        refine lv_iinc (v := y5) (lv' := [(2, .int y5), (0, .ref (o 2)), (1, .ref (o 0))]) hx hb dX4_copyAll_15 hl (k := 2) rfl (by rw [ey5]; rfl) (by decide) rfl (fun ls hl => ?_)
        have h := nm_at ey5 h
        refine lv_goto (tgt := 2) hx hb dX4_copyAll_18 (by decide) ?_
        exact ih2 y5 S4 _ _ _ hP hS (lv_sub hl [1, 2, 0] rfl) h
  unfold fX4_copyAll_2_0 at h
  refine lv_iconst (v := (0 : Int32)) hx hb dX4_copyAll_0 (by decide) ?_
  refine lv_istore_n (lv' := [(2, .int (0 : Int32)), (0, .ref (o 2)), (1, .ref (o 0))]) hx hb dX4_copyAll_1 rfl hl (by decide) rfl (fun ls hl => ?_)
  exact L2 FU (0 : Int32) S _ _ _ hP hS (lv_sub hl [1, 2, 0] rfl) h

def bX4_copyAll_0_1_2 (k2 : Int32 → MS → Option MS) (x2 : Int32) (S : MS) : Option MS :=
(if (382 : Int32) ≤ x2 then
some S
else
chk (inB x2 382) (chk (inB x2 382) (nm (sIA S 1 (upd (mIA S 1) (x2).toNatClampNeg (mIA S 0 (x2).toNatClampNeg))) fun S4 =>
nm (x2 + (1 : Int32)) fun y5 =>
k2 y5 S4)))
def lX4_copyAll_0_1_2 : Nat → (Int32 → MS → Option MS)
  | 0 => fun _ _ => none
  | n + 1 => bX4_copyAll_0_1_2 (lX4_copyAll_0_1_2 n)
def fX4_copyAll_0_1 (S : MS) : Option MS :=
lX4_copyAll_0_1_2 FU (0 : Int32) S
set_option maxHeartbeats 4000000 in
set_option maxRecDepth 100000 in
theorem mX4_copyAll_0_1 {l : Launch} {D : va_G} {cA : Nat → ClassId} {o : Nat → Nat} {A : Nat → Prop} (S : MS) {out : MS} (h : fX4_copyAll_0_1  S = some out) : Met l yX4_copyAll (ws_ yX4_copyAll cX4_copyAll 3 none) ({ frames := 0, cells := 0, slots := 0, locals := 0 } : Room) (gPc (mK D cA) (mP D cA o A) A [.ref (o 0), .ref (o 1)] S) (gQv (mK D cA) (mP D cA o A) A out) 0 0 A := by
  refine gMet_v (by decide) (Nat.le_of_ble_eq_true rfl) ?_ mKst
  intro p e s m below meth c Q ls args H locs hC hP hS hl _ ret
  obtain ⟨hx, hb, hml, hown, hts, hA, hK⟩ := hC
  have hown : s.vm.findClass RX4 = some m.cls := hown
  have hl : lv_has ls 3 [(0, .ref (o 0)), (1, .ref (o 1))] := hl
  have L2 : ∀ (n2 : Nat) (x2 : Int32) (S : MS) (H : Heap) (locs : List Loc) (ls : Array Slot), mP D cA o A S H → va_S A s.heap H locs → lv_has ls 3 [(0, .ref (o 0)), (1, .ref (o 1)), (2, .int x2)] → lX4_copyAll_0_1_2 n2 x2 S = some out → W p l e ({ frames := 0, cells := 0, slots := 0, locals := 0 } : Room) s m args below meth c H locs 0 0 Q (F0 m 2 ls []) := by
    intro n2
    induction n2 with
    | zero =>
      intro x2 S H locs ls hP hS hl h
      cases h
    | succ n2 ih2 =>
      intro x2 S H locs ls hP hS hl h
      replace h : bX4_copyAll_0_1_2 (lX4_copyAll_0_1_2 n2) x2 S = some out := h
      unfold bX4_copyAll_0_1_2 at h
      refine lv_iload_n hx hb dX4_copyAll_2 rfl (lv_at hl 2 rfl) ?_
      refine lv_sipush (v := (382 : Int32)) hx hb dX4_copyAll_3 (by decide) ?_
      refine lv_icmp_ge (tgt := 21) hx hb dX4_copyAll_6 (by decide) (fun c1 => ?_) (fun c1 => ?_)
      · have h := ite_t c1 h
        exact ret _ _ _ _ _ dX4_copyAll_21 hP hS h
      · have h := ite_f c1 h
        refine lv_aload_n hx hb dX4_copyAll_9 rfl (lv_at hl 1 rfl) ?_
        refine lv_iload_n hx hb dX4_copyAll_10 rfl (lv_at hl 2 rfl) ?_
        refine lv_aload_n hx hb dX4_copyAll_11 rfl (lv_at hl 0 rfl) ?_
        refine lv_iload_n hx hb dX4_copyAll_12 rfl (lv_at hl 2 rfl) ?_
        obtain ⟨g2, h⟩ := chk_some h
        refine va_iald hx hb hK hP.1 1 0 rfl rfl (inB_in g2) dX4_copyAll_13 ?_
        obtain ⟨g3, h⟩ := chk_some h
        refine va_iast hx hb hK hP.1 hP.2 hS 2 0 rfl rfl (inB_in g3) dX4_copyAll_14 (fun H locs hP1 hD1 hS => ?_)
        obtain ⟨S4, eS4⟩ : ∃ y : MS, y = (sIA S 1 (upd (mIA S 1) (x2).toNatClampNeg (mIA S 0 (x2).toNatClampNeg))) := ⟨_, rfl⟩
        have hP : mP D cA o A S4 H := by rw [eS4]; exact ⟨hP1, hD1⟩
        have h := nm_at eS4 h
        obtain ⟨y5, ey5⟩ : ∃ y : Int32, y = x2 + (1 : Int32) := ⟨_, rfl⟩
        refine lv_iinc (v := y5) (lv' := [(2, .int y5), (0, .ref (o 0)), (1, .ref (o 1))]) hx hb dX4_copyAll_15 hl (k := 2) rfl (by rw [ey5]; rfl) (by decide) rfl (fun ls hl => ?_)
        have h := nm_at ey5 h
        refine lv_goto (tgt := 2) hx hb dX4_copyAll_18 (by decide) ?_
        exact ih2 y5 S4 _ _ _ hP hS (lv_sub hl [1, 2, 0] rfl) h
  unfold fX4_copyAll_0_1 at h
  refine lv_iconst (v := (0 : Int32)) hx hb dX4_copyAll_0 (by decide) ?_
  refine lv_istore_n (lv' := [(2, .int (0 : Int32)), (0, .ref (o 0)), (1, .ref (o 1))]) hx hb dX4_copyAll_1 rfl hl (by decide) rfl (fun ls hl => ?_)
  exact L2 FU (0 : Int32) S _ _ _ hP hS (lv_sub hl [1, 2, 0] rfl) h

def bX4_copyAll_1_0_2 (k2 : Int32 → MS → Option MS) (x2 : Int32) (S : MS) : Option MS :=
(if (382 : Int32) ≤ x2 then
some S
else
chk (inB x2 382) (chk (inB x2 382) (nm (sIA S 0 (upd (mIA S 0) (x2).toNatClampNeg (mIA S 1 (x2).toNatClampNeg))) fun S4 =>
nm (x2 + (1 : Int32)) fun y5 =>
k2 y5 S4)))
def lX4_copyAll_1_0_2 : Nat → (Int32 → MS → Option MS)
  | 0 => fun _ _ => none
  | n + 1 => bX4_copyAll_1_0_2 (lX4_copyAll_1_0_2 n)
def fX4_copyAll_1_0 (S : MS) : Option MS :=
lX4_copyAll_1_0_2 FU (0 : Int32) S
set_option maxHeartbeats 4000000 in
set_option maxRecDepth 100000 in
theorem mX4_copyAll_1_0 {l : Launch} {D : va_G} {cA : Nat → ClassId} {o : Nat → Nat} {A : Nat → Prop} (S : MS) {out : MS} (h : fX4_copyAll_1_0  S = some out) : Met l yX4_copyAll (ws_ yX4_copyAll cX4_copyAll 3 none) ({ frames := 0, cells := 0, slots := 0, locals := 0 } : Room) (gPc (mK D cA) (mP D cA o A) A [.ref (o 1), .ref (o 0)] S) (gQv (mK D cA) (mP D cA o A) A out) 0 0 A := by
  refine gMet_v (by decide) (Nat.le_of_ble_eq_true rfl) ?_ mKst
  intro p e s m below meth c Q ls args H locs hC hP hS hl _ ret
  obtain ⟨hx, hb, hml, hown, hts, hA, hK⟩ := hC
  have hown : s.vm.findClass RX4 = some m.cls := hown
  have hl : lv_has ls 3 [(0, .ref (o 1)), (1, .ref (o 0))] := hl
  have L2 : ∀ (n2 : Nat) (x2 : Int32) (S : MS) (H : Heap) (locs : List Loc) (ls : Array Slot), mP D cA o A S H → va_S A s.heap H locs → lv_has ls 3 [(0, .ref (o 1)), (1, .ref (o 0)), (2, .int x2)] → lX4_copyAll_1_0_2 n2 x2 S = some out → W p l e ({ frames := 0, cells := 0, slots := 0, locals := 0 } : Room) s m args below meth c H locs 0 0 Q (F0 m 2 ls []) := by
    intro n2
    induction n2 with
    | zero =>
      intro x2 S H locs ls hP hS hl h
      cases h
    | succ n2 ih2 =>
      intro x2 S H locs ls hP hS hl h
      replace h : bX4_copyAll_1_0_2 (lX4_copyAll_1_0_2 n2) x2 S = some out := h
      unfold bX4_copyAll_1_0_2 at h
      refine lv_iload_n hx hb dX4_copyAll_2 rfl (lv_at hl 2 rfl) ?_
      refine lv_sipush (v := (382 : Int32)) hx hb dX4_copyAll_3 (by decide) ?_
      refine lv_icmp_ge (tgt := 21) hx hb dX4_copyAll_6 (by decide) (fun c1 => ?_) (fun c1 => ?_)
      · have h := ite_t c1 h
        exact ret _ _ _ _ _ dX4_copyAll_21 hP hS h
      · have h := ite_f c1 h
        refine lv_aload_n hx hb dX4_copyAll_9 rfl (lv_at hl 1 rfl) ?_
        refine lv_iload_n hx hb dX4_copyAll_10 rfl (lv_at hl 2 rfl) ?_
        refine lv_aload_n hx hb dX4_copyAll_11 rfl (lv_at hl 0 rfl) ?_
        refine lv_iload_n hx hb dX4_copyAll_12 rfl (lv_at hl 2 rfl) ?_
        obtain ⟨g2, h⟩ := chk_some h
        refine va_iald hx hb hK hP.1 2 0 rfl rfl (inB_in g2) dX4_copyAll_13 ?_
        obtain ⟨g3, h⟩ := chk_some h
        refine va_iast hx hb hK hP.1 hP.2 hS 1 0 rfl rfl (inB_in g3) dX4_copyAll_14 (fun H locs hP1 hD1 hS => ?_)
        obtain ⟨S4, eS4⟩ : ∃ y : MS, y = (sIA S 0 (upd (mIA S 0) (x2).toNatClampNeg (mIA S 1 (x2).toNatClampNeg))) := ⟨_, rfl⟩
        have hP : mP D cA o A S4 H := by rw [eS4]; exact ⟨hP1, hD1⟩
        have h := nm_at eS4 h
        obtain ⟨y5, ey5⟩ : ∃ y : Int32, y = x2 + (1 : Int32) := ⟨_, rfl⟩
        refine lv_iinc (v := y5) (lv' := [(2, .int y5), (0, .ref (o 1)), (1, .ref (o 0))]) hx hb dX4_copyAll_15 hl (k := 2) rfl (by rw [ey5]; rfl) (by decide) rfl (fun ls hl => ?_)
        have h := nm_at ey5 h
        refine lv_goto (tgt := 2) hx hb dX4_copyAll_18 (by decide) ?_
        exact ih2 y5 S4 _ _ _ hP hS (lv_sub hl [1, 2, 0] rfl) h
  unfold fX4_copyAll_1_0 at h
  refine lv_iconst (v := (0 : Int32)) hx hb dX4_copyAll_0 (by decide) ?_
  refine lv_istore_n (lv' := [(2, .int (0 : Int32)), (0, .ref (o 1)), (1, .ref (o 0))]) hx hb dX4_copyAll_1 rfl hl (by decide) rfl (fun ls hl => ?_)
  exact L2 FU (0 : Int32) S _ _ _ hP hS (lv_sub hl [1, 2, 0] rfl) h

def bX4_onOnes_4 (k4 : Int32 → Int32 → MS → Option (Int32 × MS)) (x1 : Int32) (x2 : Int32) (S : MS) : Option (Int32 × MS) :=
(if (mIA S 0 ((2 : Int32)).toNatClampNeg) ≤ x2 then
some (x1, S)
else
bnd (fX4_of x2 (5 : Int32) S) fun v4 S3 =>
nm (x1 ||| (v4 <<< (x2 &&& 31))) fun y5 =>
nm (x2 + (1 : Int32)) fun y6 =>
k4 y5 y6 S3)
def lX4_onOnes_4 : Nat → (Int32 → Int32 → MS → Option (Int32 × MS))
  | 0 => fun _ _ _ => none
  | n + 1 => bX4_onOnes_4 (lX4_onOnes_4 n)
def fX4_onOnes (S : MS) : Option (Int32 × MS) :=
lX4_onOnes_4 FU (0 : Int32) (0 : Int32) S
set_option maxHeartbeats 4000000 in
set_option maxRecDepth 100000 in
theorem mX4_onOnes {l : Launch} {D : va_G} {cA : Nat → ClassId} {o : Nat → Nat} {A : Nat → Prop} (S : MS) {out : (Int32 × MS)} (h : fX4_onOnes  S = some out) : Met l yX4_onOnes (ws_ yX4_onOnes cX4_onOnes 3 (some .int)) ({ frames := 1, cells := 0, slots := 0, locals := 22 } : Room) (gPc (mK D cA) (mP D cA o A) A [.ref (o 24)] S) (gQi (mK D cA) (mP D cA o A) A out) 0 0 A := by
  refine gMet_z (by decide) (Nat.le_of_ble_eq_true rfl) ?_ mKst
  intro p e s m below meth c Q ls args H locs hC hP hS hl ret
  obtain ⟨hx, hb, hml, hown, hts, hA, hK⟩ := hC
  have hown : s.vm.findClass RX4 = some m.cls := hown
  have hl : lv_has ls 3 [(0, .ref (o 24))] := hl
  have L4 : ∀ (n4 : Nat) (x1 : Int32) (x2 : Int32) (S : MS) (H : Heap) (locs : List Loc) (ls : Array Slot), mP D cA o A S H → va_S A s.heap H locs → lv_has ls 3 [(0, .ref (o 24)), (1, .int x1), (2, .int x2)] → lX4_onOnes_4 n4 x1 x2 S = some out → W p l e ({ frames := 1, cells := 0, slots := 0, locals := 22 } : Room) s m args below meth c H locs 0 0 Q (F0 m 4 ls []) := by
    intro n4
    induction n4 with
    | zero =>
      intro x1 x2 S H locs ls hP hS hl h
      cases h
    | succ n4 ih4 =>
      intro x1 x2 S H locs ls hP hS hl h
      replace h : bX4_onOnes_4 (lX4_onOnes_4 n4) x1 x2 S = some out := h
      unfold bX4_onOnes_4 at h
      refine lv_iload_n hx hb dX4_onOnes_4 rfl (lv_at hl 2 rfl) ?_
      refine lv_aload_n hx hb dX4_onOnes_5 rfl (lv_at hl 0 rfl) ?_
      refine va_get (D := D) (ci := 4) (v := .ref (o 0)) (C := RX4) (T := TX4) (N := 24) hx hb hts in_X4 hown hK hP.1 0 rfl rfl 0 (by decide) (hts _ q1249) (fun _ h9 => h9) rfl dX4_onOnes_6 ?_
      refine lv_iconst (v := (2 : Int32)) hx hb dX4_onOnes_9 (by decide) ?_
      refine va_iald hx hb hK hP.1 1 0 rfl rfl (inB_in (by decide)) dX4_onOnes_10 ?_
      refine lv_icmp_ge (tgt := 31) hx hb dX4_onOnes_11 (by decide) (fun c1 => ?_) (fun c1 => ?_)
      · have h := ite_t c1 h
        refine lv_iload_n hx hb dX4_onOnes_31 rfl (lv_at hl 1 rfl) ?_
        exact ret _ _ _ _ _ _ dX4_onOnes_32 rfl hP hS h
      · have h := ite_f c1 h
        refine lv_iload_n hx hb dX4_onOnes_14 rfl (lv_at hl 1 rfl) ?_
        refine lv_aload_n hx hb dX4_onOnes_15 rfl (lv_at hl 0 rfl) ?_
        refine lv_iload_n hx hb dX4_onOnes_16 rfl (lv_at hl 2 rfl) ?_
        refine lv_iconst (v := (5 : Int32)) hx hb dX4_onOnes_17 (by decide) ?_
        obtain ⟨v4, S3, e2, h⟩ := bnd_some h
        refine gc0_i (va_runV (As := [.int x2, .int (5 : Int32)]) (rest := [.int x1]) ⟨hx, hb, hml, hown, hts⟩ (mX4_of (l := l) (D := D) (cA := cA) (o := o) (A := A) x2 (5 : Int32) S e2) (cwV 2 hts (lw_V q1355 q1357 qs33 q90 q1358) rfl rfl rfl (by decide +kernel) ⟨Nat.le_of_ble_eq_true rfl, Nat.le_of_ble_eq_true rfl⟩) (gPreV mKst hK hA hS hP (mRecv hK hP)) rfl rfl hl.1 rfl (lv_room (Nat.le_of_ble_eq_true rfl)) dX4_onOnes_18 ⟨Nat.zero_le _, Nat.zero_le _⟩) hS (fun H locs hP hS => ?_)
        refine lv_iload_n hx hb dX4_onOnes_21 rfl (lv_at hl 2 rfl) ?_
        refine lv_ishl hx hb dX4_onOnes_22 ?_
        refine lv_ior hx hb dX4_onOnes_23 ?_
        refine lv_topi (fun y5 ey5 => ?_)
        have h := nm_at ey5 h
        refine lv_istore_n (lv' := [(1, .int y5), (0, .ref (o 24)), (2, .int x2)]) hx hb dX4_onOnes_24 rfl hl (by decide) rfl (fun ls hl => ?_)
        obtain ⟨y6, ey6⟩ : ∃ y : Int32, y = x2 + (1 : Int32) := ⟨_, rfl⟩
        refine lv_iinc (v := y6) (lv' := [(2, .int y6), (1, .int y5), (0, .ref (o 24))]) hx hb dX4_onOnes_25 hl (k := 2) rfl (by rw [ey6]; rfl) (by decide) rfl (fun ls hl => ?_)
        have h := nm_at ey6 h
        refine lv_goto (tgt := 4) hx hb dX4_onOnes_28 (by decide) ?_
        exact ih4 y5 y6 S3 _ _ _ hP hS (lv_sub hl [2, 1, 0] rfl) h
  unfold fX4_onOnes at h
  refine lv_iconst (v := (0 : Int32)) hx hb dX4_onOnes_0 (by decide) ?_
  refine lv_istore_n (lv' := [(1, .int (0 : Int32)), (0, .ref (o 24))]) hx hb dX4_onOnes_1 rfl hl (by decide) rfl (fun ls hl => ?_)
  refine lv_iconst (v := (0 : Int32)) hx hb dX4_onOnes_2 (by decide) ?_
  refine lv_istore_n (lv' := [(2, .int (0 : Int32)), (1, .int (0 : Int32)), (0, .ref (o 24))]) hx hb dX4_onOnes_3 rfl hl (by decide) rfl (fun ls hl => ?_)
  exact L4 FU (0 : Int32) (0 : Int32) S _ _ _ hP hS (lv_sub hl [2, 1, 0] rfl) h

def bX4_tiedBy_133 (k4 : Int32 → Int32 → Int32 → MS → Option (Int32 × MS)) (k12 : Int32 → Int32 → Int32 → Int32 → MS → Option (Int32 × MS)) (x1 : Int32) (x2 : Int32) (x3 : Int32) (x4 : Int32) (S : MS) : Option (Int32 × MS) :=
nm (x4 + (1 : Int32)) fun y1 =>
k12 x1 x2 x3 y1 S
def bX4_tiedBy_130 (k4 : Int32 → Int32 → Int32 → MS → Option (Int32 × MS)) (k12 : Int32 → Int32 → Int32 → Int32 → MS → Option (Int32 × MS)) (x1 : Int32) (x3 : Int32) (x4 : Int32) (t0 : Int32) (t1 : Int32) (t2 : Int32) (S : MS) : Option (Int32 × MS) :=
nm (t0 ||| (t1 ||| t2)) fun y2 =>
bX4_tiedBy_133 k4 k12 x1 y2 x3 x4 S
def bX4_tiedBy_97 (k4 : Int32 → Int32 → Int32 → MS → Option (Int32 × MS)) (k12 : Int32 → Int32 → Int32 → Int32 → MS → Option (Int32 × MS)) (x1 : Int32) (x2 : Int32) (x3 : Int32) (x4 : Int32) (S : MS) : Option (Int32 × MS) :=
bnd (fX4_of x4 (3 : Int32) S) fun v5 S4 =>
bnd (fX4_of x4 (2 : Int32) S4) fun v8 S7 =>
(if 0 ≤ v8 then
bnd (fX4_of x4 (2 : Int32) S7) fun v12 S11 =>
bX4_tiedBy_130 k4 k12 x1 x3 x4 x2 ((1 : Int32) <<< (v5 &&& 31)) ((1 : Int32) <<< (v12 &&& 31)) S11
else
bX4_tiedBy_130 k4 k12 x1 x3 x4 x2 ((1 : Int32) <<< (v5 &&& 31)) (0 : Int32) S7)
def bX4_tiedBy_75 (k4 : Int32 → Int32 → Int32 → MS → Option (Int32 × MS)) (k12 : Int32 → Int32 → Int32 → Int32 → MS → Option (Int32 × MS)) (x1 : Int32) (x2 : Int32) (x3 : Int32) (x4 : Int32) (x5 : Int32) (t0 : Int32) (S : MS) : Option (Int32 × MS) :=
(if ((x1 >>> (x4 &&& 31)) &&& (1 : Int32)) = (1 : Int32) then
(if x5 = 0 then
(if t0 = 0 then
bX4_tiedBy_133 k4 k12 x1 x2 x3 x4 S
else
bX4_tiedBy_97 k4 k12 x1 x2 x3 x4 S)
else
bX4_tiedBy_97 k4 k12 x1 x2 x3 x4 S)
else
bX4_tiedBy_133 k4 k12 x1 x2 x3 x4 S)
def bX4_tiedBy_53 (k4 : Int32 → Int32 → Int32 → MS → Option (Int32 × MS)) (k12 : Int32 → Int32 → Int32 → Int32 → MS → Option (Int32 × MS)) (x1 : Int32) (x2 : Int32) (x3 : Int32) (x4 : Int32) (t0 : Int32) (S : MS) : Option (Int32 × MS) :=
bnd (fX4_of x4 (3 : Int32) S) fun v18 S17 =>
(if ((x2 >>> (v18 &&& 31)) &&& (1 : Int32)) = (1 : Int32) then
bX4_tiedBy_75 k4 k12 x1 x2 x3 x4 t0 (1 : Int32) S17
else
bX4_tiedBy_75 k4 k12 x1 x2 x3 x4 t0 (0 : Int32) S17)
def bX4_tiedBy_48 (k4 : Int32 → Int32 → Int32 → MS → Option (Int32 × MS)) (k12 : Int32 → Int32 → Int32 → Int32 → MS → Option (Int32 × MS)) (x1 : Int32) (x2 : Int32) (x3 : Int32) (x4 : Int32) (S : MS) : Option (Int32 × MS) :=
bX4_tiedBy_53 k4 k12 x1 x2 x3 x4 (1 : Int32) S
def bX4_tiedBy_12 (k4 : Int32 → Int32 → Int32 → MS → Option (Int32 × MS)) (k12 : Int32 → Int32 → Int32 → Int32 → MS → Option (Int32 × MS)) (x1 : Int32) (x2 : Int32) (x3 : Int32) (x4 : Int32) (S : MS) : Option (Int32 × MS) :=
(if (mIA S 0 ((2 : Int32)).toNatClampNeg) ≤ x4 then
nm (x3 + (1 : Int32)) fun y21 =>
k4 x1 x2 y21 S
else
bnd (fX4_of x4 (2 : Int32) S) fun v24 S23 =>
(if v24 < 0 then
bX4_tiedBy_48 k4 k12 x1 x2 x3 x4 S23
else
bnd (fX4_of x4 (2 : Int32) S23) fun v28 S27 =>
(if ((x2 >>> (v28 &&& 31)) &&& (1 : Int32)) = (1 : Int32) then
bX4_tiedBy_48 k4 k12 x1 x2 x3 x4 S27
else
bX4_tiedBy_53 k4 k12 x1 x2 x3 x4 (0 : Int32) S27)))
def lX4_tiedBy_12 (k4 : Int32 → Int32 → Int32 → MS → Option (Int32 × MS)) : Nat → (Int32 → Int32 → Int32 → Int32 → MS → Option (Int32 × MS))
  | 0 => fun _ _ _ _ _ => none
  | n + 1 => bX4_tiedBy_12 k4 (lX4_tiedBy_12 k4 n)
def bX4_tiedBy_4 (k4 : Int32 → Int32 → Int32 → MS → Option (Int32 × MS)) (x1 : Int32) (x2 : Int32) (x3 : Int32) (S : MS) : Option (Int32 × MS) :=
(if (4 : Int32) ≤ x3 then
some (x2, S)
else
lX4_tiedBy_12 k4 FU x1 x2 x3 (0 : Int32) S)
def lX4_tiedBy_4 : Nat → (Int32 → Int32 → Int32 → MS → Option (Int32 × MS))
  | 0 => fun _ _ _ _ => none
  | n + 1 => bX4_tiedBy_4 (lX4_tiedBy_4 n)
def fX4_tiedBy (x1 : Int32) (S : MS) : Option (Int32 × MS) :=
lX4_tiedBy_4 FU x1 (0 : Int32) (0 : Int32) S
set_option maxHeartbeats 4000000 in
set_option maxRecDepth 100000 in
theorem mX4_tiedBy {l : Launch} {D : va_G} {cA : Nat → ClassId} {o : Nat → Nat} {A : Nat → Prop} (x1 : Int32) (S : MS) {out : (Int32 × MS)} (h : fX4_tiedBy x1 S = some out) : Met l yX4_tiedBy (ws_ yX4_tiedBy cX4_tiedBy 7 (some .int)) ({ frames := 1, cells := 0, slots := 0, locals := 22 } : Room) (gPc (mK D cA) (mP D cA o A) A [.ref (o 24), .int x1] S) (gQi (mK D cA) (mP D cA o A) A out) 0 0 A := by
  refine gMet_z (by decide) (Nat.le_of_ble_eq_true rfl) ?_ mKst
  intro p e s m below meth c Q ls args H locs hC hP hS hl ret
  obtain ⟨hx, hb, hml, hown, hts, hA, hK⟩ := hC
  have hown : s.vm.findClass RX4 = some m.cls := hown
  have hl : lv_has ls 7 [(0, .ref (o 24)), (1, .int x1)] := hl
  have L4 : ∀ (n4 : Nat) (x1 : Int32) (x2 : Int32) (x3 : Int32) (S : MS) (H : Heap) (locs : List Loc) (ls : Array Slot), mP D cA o A S H → va_S A s.heap H locs → lv_has ls 7 [(0, .ref (o 24)), (1, .int x1), (2, .int x2), (3, .int x3)] → lX4_tiedBy_4 n4 x1 x2 x3 S = some out → W p l e ({ frames := 1, cells := 0, slots := 0, locals := 22 } : Room) s m args below meth c H locs 0 0 Q (F0 m 4 ls []) := by
    intro n4
    induction n4 with
    | zero =>
      intro x1 x2 x3 S H locs ls hP hS hl h
      cases h
    | succ n4 ih4 =>
      have L12 : ∀ (n12 : Nat) (x1 : Int32) (x2 : Int32) (x3 : Int32) (x4 : Int32) (S : MS) (H : Heap) (locs : List Loc) (ls : Array Slot), mP D cA o A S H → va_S A s.heap H locs → lv_has ls 7 [(0, .ref (o 24)), (1, .int x1), (2, .int x2), (3, .int x3), (4, .int x4)] → lX4_tiedBy_12 (lX4_tiedBy_4 n4) n12 x1 x2 x3 x4 S = some out → W p l e ({ frames := 1, cells := 0, slots := 0, locals := 22 } : Room) s m args below meth c H locs 0 0 Q (F0 m 12 ls []) := by
        intro n12
        induction n12 with
        | zero =>
          intro x1 x2 x3 x4 S H locs ls hP hS hl h
          cases h
        | succ n12 ih12 =>
          have B133 : ∀ (x1 : Int32) (x2 : Int32) (x3 : Int32) (x4 : Int32) (S : MS) (H : Heap) (locs : List Loc) (ls : Array Slot), mP D cA o A S H → va_S A s.heap H locs → lv_has ls 7 [(0, .ref (o 24)), (1, .int x1), (2, .int x2), (3, .int x3), (4, .int x4)] → bX4_tiedBy_133 (lX4_tiedBy_4 n4) (lX4_tiedBy_12 (lX4_tiedBy_4 n4) n12) x1 x2 x3 x4 S = some out → W p l e ({ frames := 1, cells := 0, slots := 0, locals := 22 } : Room) s m args below meth c H locs 0 0 Q (F0 m 133 ls []) := by
            intro x1 x2 x3 x4 S H locs ls hP hS hl h
            unfold bX4_tiedBy_133 at h
            obtain ⟨y1, ey1⟩ : ∃ y : Int32, y = x4 + (1 : Int32) := ⟨_, rfl⟩
            refine lv_iinc (v := y1) (lv' := [(4, .int y1), (0, .ref (o 24)), (1, .int x1), (2, .int x2), (3, .int x3)]) hx hb dX4_tiedBy_133 hl (k := 4) rfl (by rw [ey1]; rfl) (by decide) rfl (fun ls hl => ?_)
            have h := nm_at ey1 h
            refine lv_goto (tgt := 12) hx hb dX4_tiedBy_136 (by decide) ?_
            exact ih12 x1 x2 x3 y1 S _ _ _ hP hS (lv_sub hl [1, 2, 3, 4, 0] rfl) h
          have B130 : ∀ (x1 : Int32) (x3 : Int32) (x4 : Int32) (t0 : Int32) (t1 : Int32) (t2 : Int32) (S : MS) (H : Heap) (locs : List Loc) (ls : Array Slot), mP D cA o A S H → va_S A s.heap H locs → lv_has ls 7 [(0, .ref (o 24)), (1, .int x1), (3, .int x3), (4, .int x4)] → bX4_tiedBy_130 (lX4_tiedBy_4 n4) (lX4_tiedBy_12 (lX4_tiedBy_4 n4) n12) x1 x3 x4 t0 t1 t2 S = some out → W p l e ({ frames := 1, cells := 0, slots := 0, locals := 22 } : Room) s m args below meth c H locs 0 0 Q (F0 m 130 ls [.int t2, .int t1, .int t0]) := by
            intro x1 x3 x4 t0 t1 t2 S H locs ls hP hS hl h
            unfold bX4_tiedBy_130 at h
            refine lv_ior hx hb dX4_tiedBy_130 ?_
            refine lv_ior hx hb dX4_tiedBy_131 ?_
            refine lv_topi (fun y2 ey2 => ?_)
            have h := nm_at ey2 h
            refine lv_istore_n (lv' := [(2, .int y2), (0, .ref (o 24)), (1, .int x1), (3, .int x3), (4, .int x4)]) hx hb dX4_tiedBy_132 rfl hl (by decide) rfl (fun ls hl => ?_)
            exact B133 x1 y2 x3 x4 S _ _ _ hP hS (lv_sub hl [1, 2, 0, 3, 4] rfl) h
          have B97 : ∀ (x1 : Int32) (x2 : Int32) (x3 : Int32) (x4 : Int32) (S : MS) (H : Heap) (locs : List Loc) (ls : Array Slot), mP D cA o A S H → va_S A s.heap H locs → lv_has ls 7 [(0, .ref (o 24)), (1, .int x1), (2, .int x2), (3, .int x3), (4, .int x4)] → bX4_tiedBy_97 (lX4_tiedBy_4 n4) (lX4_tiedBy_12 (lX4_tiedBy_4 n4) n12) x1 x2 x3 x4 S = some out → W p l e ({ frames := 1, cells := 0, slots := 0, locals := 22 } : Room) s m args below meth c H locs 0 0 Q (F0 m 97 ls []) := by
            intro x1 x2 x3 x4 S H locs ls hP hS hl h
            unfold bX4_tiedBy_97 at h
            refine lv_iload_n hx hb dX4_tiedBy_97 rfl (lv_at hl 2 rfl) ?_
            refine lv_iconst (v := (1 : Int32)) hx hb dX4_tiedBy_98 (by decide) ?_
            refine lv_aload_n hx hb dX4_tiedBy_99 rfl (lv_at hl 0 rfl) ?_
            refine lv_iload hx hb dX4_tiedBy_100 (lv_at hl 4 rfl) ?_
            refine lv_iconst (v := (3 : Int32)) hx hb dX4_tiedBy_102 (by decide) ?_
            obtain ⟨v5, S4, e3, h⟩ := bnd_some h
            refine gc0_i (va_runV (As := [.int x4, .int (3 : Int32)]) (rest := [.int (1 : Int32), .int x2]) ⟨hx, hb, hml, hown, hts⟩ (mX4_of (l := l) (D := D) (cA := cA) (o := o) (A := A) x4 (3 : Int32) S e3) (cwV 2 hts (lw_V q1355 q1357 qs33 q90 q1358) rfl rfl rfl (by decide +kernel) ⟨Nat.le_of_ble_eq_true rfl, Nat.le_of_ble_eq_true rfl⟩) (gPreV mKst hK hA hS hP (mRecv hK hP)) rfl rfl hl.1 rfl (lv_room (Nat.le_of_ble_eq_true rfl)) dX4_tiedBy_103 ⟨Nat.zero_le _, Nat.zero_le _⟩) hS (fun H locs hP hS => ?_)
            refine lv_ishl hx hb dX4_tiedBy_106 ?_
            refine lv_aload_n hx hb dX4_tiedBy_107 rfl (lv_at hl 0 rfl) ?_
            refine lv_iload hx hb dX4_tiedBy_108 (lv_at hl 4 rfl) ?_
            refine lv_iconst (v := (2 : Int32)) hx hb dX4_tiedBy_110 (by decide) ?_
            obtain ⟨v8, S7, e6, h⟩ := bnd_some h
            refine gc0_i (va_runV (As := [.int x4, .int (2 : Int32)]) (rest := [.int ((1 : Int32) <<< (v5 &&& 31)), .int x2]) ⟨hx, hb, hml, hown, hts⟩ (mX4_of (l := l) (D := D) (cA := cA) (o := o) (A := A) x4 (2 : Int32) S4 e6) (cwV 2 hts (lw_V q1355 q1357 qs33 q90 q1358) rfl rfl rfl (by decide +kernel) ⟨Nat.le_of_ble_eq_true rfl, Nat.le_of_ble_eq_true rfl⟩) (gPreV mKst hK hA hS hP (mRecv hK hP)) rfl rfl hl.1 rfl (lv_room (Nat.le_of_ble_eq_true rfl)) dX4_tiedBy_111 ⟨Nat.zero_le _, Nat.zero_le _⟩) hS (fun H locs hP hS => ?_)
            refine lv_if_ge (tgt := 121) hx hb dX4_tiedBy_114 (by decide) (fun c9 => ?_) (fun c9 => ?_)
            · have h := ite_t c9 h
              refine lv_iconst (v := (1 : Int32)) hx hb dX4_tiedBy_121 (by decide) ?_
              refine lv_aload_n hx hb dX4_tiedBy_122 rfl (lv_at hl 0 rfl) ?_
              refine lv_iload hx hb dX4_tiedBy_123 (lv_at hl 4 rfl) ?_
              refine lv_iconst (v := (2 : Int32)) hx hb dX4_tiedBy_125 (by decide) ?_
              obtain ⟨v12, S11, e10, h⟩ := bnd_some h
              refine gc0_i (va_runV (As := [.int x4, .int (2 : Int32)]) (rest := [.int (1 : Int32), .int ((1 : Int32) <<< (v5 &&& 31)), .int x2]) ⟨hx, hb, hml, hown, hts⟩ (mX4_of (l := l) (D := D) (cA := cA) (o := o) (A := A) x4 (2 : Int32) S7 e10) (cwV 2 hts (lw_V q1355 q1357 qs33 q90 q1358) rfl rfl rfl (by decide +kernel) ⟨Nat.le_of_ble_eq_true rfl, Nat.le_of_ble_eq_true rfl⟩) (gPreV mKst hK hA hS hP (mRecv hK hP)) rfl rfl hl.1 rfl (lv_room (Nat.le_of_ble_eq_true rfl)) dX4_tiedBy_126 ⟨Nat.zero_le _, Nat.zero_le _⟩) hS (fun H locs hP hS => ?_)
              refine lv_ishl hx hb dX4_tiedBy_129 ?_
              exact B130 x1 x3 x4 x2 ((1 : Int32) <<< (v5 &&& 31)) ((1 : Int32) <<< (v12 &&& 31)) S11 _ _ _ hP hS (lv_sub hl [0, 1, 3, 4] rfl) h
            · have h := ite_f c9 h
              refine lv_iconst (v := (0 : Int32)) hx hb dX4_tiedBy_117 (by decide) ?_
              refine lv_goto (tgt := 130) hx hb dX4_tiedBy_118 (by decide) ?_
              exact B130 x1 x3 x4 x2 ((1 : Int32) <<< (v5 &&& 31)) (0 : Int32) S7 _ _ _ hP hS (lv_sub hl [0, 1, 3, 4] rfl) h
          have B75 : ∀ (x1 : Int32) (x2 : Int32) (x3 : Int32) (x4 : Int32) (x5 : Int32) (t0 : Int32) (S : MS) (H : Heap) (locs : List Loc) (ls : Array Slot), mP D cA o A S H → va_S A s.heap H locs → lv_has ls 7 [(0, .ref (o 24)), (1, .int x1), (2, .int x2), (3, .int x3), (4, .int x4), (5, .int x5)] → bX4_tiedBy_75 (lX4_tiedBy_4 n4) (lX4_tiedBy_12 (lX4_tiedBy_4 n4) n12) x1 x2 x3 x4 x5 t0 S = some out → W p l e ({ frames := 1, cells := 0, slots := 0, locals := 22 } : Room) s m args below meth c H locs 0 0 Q (F0 m 75 ls [.int t0]) := by
            intro x1 x2 x3 x4 x5 t0 S H locs ls hP hS hl h
            unfold bX4_tiedBy_75 at h
            refine lv_istore (lv' := [(6, .int t0), (0, .ref (o 24)), (1, .int x1), (2, .int x2), (3, .int x3), (4, .int x4), (5, .int x5)]) hx hb dX4_tiedBy_75 hl (by decide) rfl (fun ls hl => ?_)
            refine lv_iload_n hx hb dX4_tiedBy_77 rfl (lv_at hl 2 rfl) ?_
            refine lv_iload hx hb dX4_tiedBy_78 (lv_at hl 5 rfl) ?_
            refine lv_ishr hx hb dX4_tiedBy_80 ?_
            refine lv_iconst (v := (1 : Int32)) hx hb dX4_tiedBy_81 (by decide) ?_
            refine lv_iand hx hb dX4_tiedBy_82 ?_
            refine lv_iconst (v := (1 : Int32)) hx hb dX4_tiedBy_83 (by decide) ?_
            refine lv_icmp_ne (tgt := 133) hx hb dX4_tiedBy_84 (by decide) (fun c13 => ?_) (fun c13 => ?_)
            · have h := ite_f c13 h
              exact B133 x1 x2 x3 x4 S _ _ _ hP hS (lv_sub hl [1, 2, 3, 4, 5] rfl) h
            · have h := ite_t c13 h
              refine lv_iload hx hb dX4_tiedBy_87 (lv_at hl 6 rfl) ?_
              refine lv_if_ne (tgt := 97) hx hb dX4_tiedBy_89 (by decide) (fun c14 => ?_) (fun c14 => ?_)
              · have h := ite_f c14 h
                exact B97 x1 x2 x3 x4 S _ _ _ hP hS (lv_sub hl [1, 2, 3, 4, 5] rfl) h
              · have h := ite_t c14 h
                refine lv_iload hx hb dX4_tiedBy_92 (lv_at hl 0 rfl) ?_
                refine lv_if_eq (tgt := 133) hx hb dX4_tiedBy_94 (by decide) (fun c15 => ?_) (fun c15 => ?_)
                · have h := ite_t c15 h
                  exact B133 x1 x2 x3 x4 S _ _ _ hP hS (lv_sub hl [1, 2, 3, 4, 5] rfl) h
                · have h := ite_f c15 h
                  exact B97 x1 x2 x3 x4 S _ _ _ hP hS (lv_sub hl [1, 2, 3, 4, 5] rfl) h
          have B53 : ∀ (x1 : Int32) (x2 : Int32) (x3 : Int32) (x4 : Int32) (t0 : Int32) (S : MS) (H : Heap) (locs : List Loc) (ls : Array Slot), mP D cA o A S H → va_S A s.heap H locs → lv_has ls 7 [(0, .ref (o 24)), (1, .int x1), (2, .int x2), (3, .int x3), (4, .int x4)] → bX4_tiedBy_53 (lX4_tiedBy_4 n4) (lX4_tiedBy_12 (lX4_tiedBy_4 n4) n12) x1 x2 x3 x4 t0 S = some out → W p l e ({ frames := 1, cells := 0, slots := 0, locals := 22 } : Room) s m args below meth c H locs 0 0 Q (F0 m 53 ls [.int t0]) := by
            intro x1 x2 x3 x4 t0 S H locs ls hP hS hl h
            unfold bX4_tiedBy_53 at h
            refine lv_istore (lv' := [(5, .int t0), (0, .ref (o 24)), (1, .int x1), (2, .int x2), (3, .int x3), (4, .int x4)]) hx hb dX4_tiedBy_53 hl (by decide) rfl (fun ls hl => ?_)
            refine lv_iload_n hx hb dX4_tiedBy_55 rfl (lv_at hl 3 rfl) ?_
            refine lv_aload_n hx hb dX4_tiedBy_56 rfl (lv_at hl 1 rfl) ?_
            refine lv_iload hx hb dX4_tiedBy_57 (lv_at hl 5 rfl) ?_
            refine lv_iconst (v := (3 : Int32)) hx hb dX4_tiedBy_59 (by decide) ?_
            obtain ⟨v18, S17, e16, h⟩ := bnd_some h
            refine gc0_i (va_runV (As := [.int x4, .int (3 : Int32)]) (rest := [.int x2]) ⟨hx, hb, hml, hown, hts⟩ (mX4_of (l := l) (D := D) (cA := cA) (o := o) (A := A) x4 (3 : Int32) S e16) (cwV 2 hts (lw_V q1355 q1357 qs33 q90 q1358) rfl rfl rfl (by decide +kernel) ⟨Nat.le_of_ble_eq_true rfl, Nat.le_of_ble_eq_true rfl⟩) (gPreV mKst hK hA hS hP (mRecv hK hP)) rfl rfl hl.1 rfl (lv_room (Nat.le_of_ble_eq_true rfl)) dX4_tiedBy_60 ⟨Nat.zero_le _, Nat.zero_le _⟩) hS (fun H locs hP hS => ?_)
            refine lv_ishr hx hb dX4_tiedBy_63 ?_
            refine lv_iconst (v := (1 : Int32)) hx hb dX4_tiedBy_64 (by decide) ?_
            refine lv_iand hx hb dX4_tiedBy_65 ?_
            refine lv_iconst (v := (1 : Int32)) hx hb dX4_tiedBy_66 (by decide) ?_
            refine lv_icmp_ne (tgt := 74) hx hb dX4_tiedBy_67 (by decide) (fun c19 => ?_) (fun c19 => ?_)
            · have h := ite_f c19 h
              refine lv_iconst (v := (0 : Int32)) hx hb dX4_tiedBy_74 (by decide) ?_
              exact B75 x1 x2 x3 x4 t0 (0 : Int32) S17 _ _ _ hP hS (lv_sub hl [1, 2, 3, 4, 5, 0] rfl) h
            · have h := ite_t c19 h
              refine lv_iconst (v := (1 : Int32)) hx hb dX4_tiedBy_70 (by decide) ?_
              refine lv_goto (tgt := 75) hx hb dX4_tiedBy_71 (by decide) ?_
              exact B75 x1 x2 x3 x4 t0 (1 : Int32) S17 _ _ _ hP hS (lv_sub hl [1, 2, 3, 4, 5, 0] rfl) h
          have B48 : ∀ (x1 : Int32) (x2 : Int32) (x3 : Int32) (x4 : Int32) (S : MS) (H : Heap) (locs : List Loc) (ls : Array Slot), mP D cA o A S H → va_S A s.heap H locs → lv_has ls 7 [(0, .ref (o 24)), (1, .int x1), (2, .int x2), (3, .int x3), (4, .int x4)] → bX4_tiedBy_48 (lX4_tiedBy_4 n4) (lX4_tiedBy_12 (lX4_tiedBy_4 n4) n12) x1 x2 x3 x4 S = some out → W p l e ({ frames := 1, cells := 0, slots := 0, locals := 22 } : Room) s m args below meth c H locs 0 0 Q (F0 m 48 ls []) := by
            intro x1 x2 x3 x4 S H locs ls hP hS hl h
            unfold bX4_tiedBy_48 at h
            refine lv_iconst (v := (1 : Int32)) hx hb dX4_tiedBy_48 (by decide) ?_
            refine lv_goto (tgt := 53) hx hb dX4_tiedBy_49 (by decide) ?_
            exact B53 x1 x2 x3 x4 (1 : Int32) S _ _ _ hP hS hl h
          intro x1 x2 x3 x4 S H locs ls hP hS hl h
          replace h : bX4_tiedBy_12 (lX4_tiedBy_4 n4) (lX4_tiedBy_12 (lX4_tiedBy_4 n4) n12) x1 x2 x3 x4 S = some out := h
          unfold bX4_tiedBy_12 at h
          refine lv_iload hx hb dX4_tiedBy_12 (lv_at hl 4 rfl) ?_
          refine lv_aload_n hx hb dX4_tiedBy_14 rfl (lv_at hl 0 rfl) ?_
          refine va_get (D := D) (ci := 4) (v := .ref (o 0)) (C := RX4) (T := TX4) (N := 24) hx hb hts in_X4 hown hK hP.1 0 rfl rfl 0 (by decide) (hts _ q1249) (fun _ h9 => h9) rfl dX4_tiedBy_15 ?_
          refine lv_iconst (v := (2 : Int32)) hx hb dX4_tiedBy_18 (by decide) ?_
          refine va_iald hx hb hK hP.1 1 0 rfl rfl (inB_in (by decide)) dX4_tiedBy_19 ?_
          refine lv_icmp_ge (tgt := 139) hx hb dX4_tiedBy_20 (by decide) (fun c20 => ?_) (fun c20 => ?_)
          · have h := ite_t c20 h
            obtain ⟨y21, ey21⟩ : ∃ y : Int32, y = x3 + (1 : Int32) := ⟨_, rfl⟩
            refine lv_iinc (v := y21) (lv' := [(3, .int y21), (0, .ref (o 24)), (1, .int x1), (2, .int x2), (4, .int x4)]) hx hb dX4_tiedBy_139 hl (k := 3) rfl (by rw [ey21]; rfl) (by decide) rfl (fun ls hl => ?_)
            have h := nm_at ey21 h
            refine lv_goto (tgt := 4) hx hb dX4_tiedBy_142 (by decide) ?_
            exact ih4 x1 x2 y21 S _ _ _ hP hS (lv_sub hl [1, 2, 3, 0] rfl) h
          · have h := ite_f c20 h
            refine lv_aload_n hx hb dX4_tiedBy_23 rfl (lv_at hl 0 rfl) ?_
            refine lv_iload hx hb dX4_tiedBy_24 (lv_at hl 4 rfl) ?_
            refine lv_iconst (v := (2 : Int32)) hx hb dX4_tiedBy_26 (by decide) ?_
            obtain ⟨v24, S23, e22, h⟩ := bnd_some h
            refine gc0_i (va_runV (As := [.int x4, .int (2 : Int32)]) (rest := []) ⟨hx, hb, hml, hown, hts⟩ (mX4_of (l := l) (D := D) (cA := cA) (o := o) (A := A) x4 (2 : Int32) S e22) (cwV 2 hts (lw_V q1355 q1357 qs33 q90 q1358) rfl rfl rfl (by decide +kernel) ⟨Nat.le_of_ble_eq_true rfl, Nat.le_of_ble_eq_true rfl⟩) (gPreV mKst hK hA hS hP (mRecv hK hP)) rfl rfl hl.1 rfl (lv_room (Nat.le_of_ble_eq_true rfl)) dX4_tiedBy_27 ⟨Nat.zero_le _, Nat.zero_le _⟩) hS (fun H locs hP hS => ?_)
            refine lv_if_lt (tgt := 48) hx hb dX4_tiedBy_30 (by decide) (fun c25 => ?_) (fun c25 => ?_)
            · have h := ite_t c25 h
              exact B48 x1 x2 x3 x4 S23 _ _ _ hP hS hl h
            · have h := ite_f c25 h
              refine lv_iload_n hx hb dX4_tiedBy_33 rfl (lv_at hl 2 rfl) ?_
              refine lv_aload_n hx hb dX4_tiedBy_34 rfl (lv_at hl 0 rfl) ?_
              refine lv_iload hx hb dX4_tiedBy_35 (lv_at hl 4 rfl) ?_
              refine lv_iconst (v := (2 : Int32)) hx hb dX4_tiedBy_37 (by decide) ?_
              obtain ⟨v28, S27, e26, h⟩ := bnd_some h
              refine gc0_i (va_runV (As := [.int x4, .int (2 : Int32)]) (rest := [.int x2]) ⟨hx, hb, hml, hown, hts⟩ (mX4_of (l := l) (D := D) (cA := cA) (o := o) (A := A) x4 (2 : Int32) S23 e26) (cwV 2 hts (lw_V q1355 q1357 qs33 q90 q1358) rfl rfl rfl (by decide +kernel) ⟨Nat.le_of_ble_eq_true rfl, Nat.le_of_ble_eq_true rfl⟩) (gPreV mKst hK hA hS hP (mRecv hK hP)) rfl rfl hl.1 rfl (lv_room (Nat.le_of_ble_eq_true rfl)) dX4_tiedBy_38 ⟨Nat.zero_le _, Nat.zero_le _⟩) hS (fun H locs hP hS => ?_)
              refine lv_ishr hx hb dX4_tiedBy_41 ?_
              refine lv_iconst (v := (1 : Int32)) hx hb dX4_tiedBy_42 (by decide) ?_
              refine lv_iand hx hb dX4_tiedBy_43 ?_
              refine lv_iconst (v := (1 : Int32)) hx hb dX4_tiedBy_44 (by decide) ?_
              refine lv_icmp_ne (tgt := 52) hx hb dX4_tiedBy_45 (by decide) (fun c29 => ?_) (fun c29 => ?_)
              · have h := ite_f c29 h
                refine lv_iconst (v := (0 : Int32)) hx hb dX4_tiedBy_52 (by decide) ?_
                exact B53 x1 x2 x3 x4 (0 : Int32) S27 _ _ _ hP hS hl h
              · have h := ite_t c29 h
                exact B48 x1 x2 x3 x4 S27 _ _ _ hP hS hl h
      intro x1 x2 x3 S H locs ls hP hS hl h
      replace h : bX4_tiedBy_4 (lX4_tiedBy_4 n4) x1 x2 x3 S = some out := h
      unfold bX4_tiedBy_4 at h
      refine lv_iload_n hx hb dX4_tiedBy_4 rfl (lv_at hl 3 rfl) ?_
      refine lv_iconst (v := (4 : Int32)) hx hb dX4_tiedBy_5 (by decide) ?_
      refine lv_icmp_ge (tgt := 145) hx hb dX4_tiedBy_6 (by decide) (fun c30 => ?_) (fun c30 => ?_)
      · have h := ite_t c30 h
        refine lv_iload_n hx hb dX4_tiedBy_145 rfl (lv_at hl 2 rfl) ?_
        exact ret _ _ _ _ _ _ dX4_tiedBy_146 rfl hP hS h
      · have h := ite_f c30 h
        refine lv_iconst (v := (0 : Int32)) hx hb dX4_tiedBy_9 (by decide) ?_
        refine lv_istore (lv' := [(4, .int (0 : Int32)), (0, .ref (o 24)), (1, .int x1), (2, .int x2), (3, .int x3)]) hx hb dX4_tiedBy_10 hl (by decide) rfl (fun ls hl => ?_)
        exact L12 FU x1 x2 x3 (0 : Int32) S _ _ _ hP hS (lv_sub hl [1, 2, 3, 4, 0] rfl) h
  unfold fX4_tiedBy at h
  refine lv_iconst (v := (0 : Int32)) hx hb dX4_tiedBy_0 (by decide) ?_
  refine lv_istore_n (lv' := [(2, .int (0 : Int32)), (0, .ref (o 24)), (1, .int x1)]) hx hb dX4_tiedBy_1 rfl hl (by decide) rfl (fun ls hl => ?_)
  refine lv_iconst (v := (0 : Int32)) hx hb dX4_tiedBy_2 (by decide) ?_
  refine lv_istore_n (lv' := [(3, .int (0 : Int32)), (2, .int (0 : Int32)), (0, .ref (o 24)), (1, .int x1)]) hx hb dX4_tiedBy_3 rfl hl (by decide) rfl (fun ls hl => ?_)
  exact L4 FU x1 (0 : Int32) (0 : Int32) S _ _ _ hP hS (lv_sub hl [2, 3, 1, 0] rfl) h

def bX4_count_81 (x1 : Int32) (S : MS) : Option (Int32 × MS) :=
chk (inB (((4 : Int32) + x1) - (3 : Int32)) 382) (some ((mIA S 0 ((((4 : Int32) + x1) - (3 : Int32))).toNatClampNeg), S))
def fX4_count (x1 : Int32) (S : MS) : Option (Int32 × MS) :=
(if x1 = (0 : Int32) then
some ((mIA S 0 ((2 : Int32)).toNatClampNeg), S)
else
(if x1 = (1 : Int32) then
some ((mIA S 0 ((3 : Int32)).toNatClampNeg), S)
else
(if x1 = (2 : Int32) then
some ((mIA S 0 ((0 : Int32)).toNatClampNeg), S)
else
(if x1 = (3 : Int32) then
bX4_count_81 x1 S
else
(if x1 = (4 : Int32) then
bX4_count_81 x1 S
else
(if x1 = (5 : Int32) then
bnd (fX4_onOnes  S) fun v10 S9 =>
some (v10, S9)
else
(if x1 = (6 : Int32) then
bnd (fX4_onOnes  S) fun v14 S13 =>
bnd (fX4_tiedBy v14 S13) fun v17 S16 =>
some (v17, S16)
else
(if x1 = (7 : Int32) then
some ((mIA S 0 ((6 : Int32)).toNatClampNeg), S)
else
(if x1 = (8 : Int32) then
some ((mIA S 0 ((7 : Int32)).toNatClampNeg), S)
else
(if x1 = (9 : Int32) then
some ((mIF S 22), S)
else
(if x1 = (10 : Int32) then
some ((mIA S 0 ((1 : Int32)).toNatClampNeg), S)
else
bnd (fX4_error (-1000000001 : Int32) S) fun v24 S23 =>
some (v24, S23))))))))))))
set_option maxHeartbeats 4000000 in
set_option maxRecDepth 100000 in
theorem mX4_count {l : Launch} {D : va_G} {cA : Nat → ClassId} {o : Nat → Nat} {A : Nat → Prop} (x1 : Int32) (S : MS) {out : (Int32 × MS)} (h : fX4_count x1 S = some out) : Met l yX4_count (ws_ yX4_count cX4_count 2 (some .int)) ({ frames := 2, cells := 0, slots := 0, locals := 48 } : Room) (gPc (mK D cA) (mP D cA o A) A [.ref (o 24), .int x1] S) (gQi (mK D cA) (mP D cA o A) A out) 0 0 A := by
  refine gMet_z (by decide) (Nat.le_of_ble_eq_true rfl) ?_ mKst
  intro p e s m below meth c Q ls args H locs hC hP hS hl ret
  obtain ⟨hx, hb, hml, hown, hts, hA, hK⟩ := hC
  have hown : s.vm.findClass RX4 = some m.cls := hown
  have hl : lv_has ls 2 [(0, .ref (o 24)), (1, .int x1)] := hl
  have B81 : ∀ (x1 : Int32) (S : MS) (H : Heap) (locs : List Loc) (ls : Array Slot), mP D cA o A S H → va_S A s.heap H locs → lv_has ls 2 [(0, .ref (o 24)), (1, .int x1)] → bX4_count_81  x1 S = some out → W p l e ({ frames := 2, cells := 0, slots := 0, locals := 48 } : Room) s m args below meth c H locs 0 0 Q (F0 m 81 ls []) := by
    intro x1 S H locs ls hP hS hl h
    unfold bX4_count_81 at h
    refine lv_aload_n hx hb dX4_count_81 rfl (lv_at hl 0 rfl) ?_
    refine va_get (D := D) (ci := 4) (v := .ref (o 0)) (C := RX4) (T := TX4) (N := 24) hx hb hts in_X4 hown hK hP.1 0 rfl rfl 0 (by decide) (hts _ q1249) (fun _ h9 => h9) rfl dX4_count_82 ?_
    refine lv_iconst (v := (4 : Int32)) hx hb dX4_count_85 (by decide) ?_
    refine lv_iload_n hx hb dX4_count_86 rfl (lv_at hl 1 rfl) ?_
    refine lv_iadd hx hb dX4_count_87 ?_
    refine lv_iconst (v := (3 : Int32)) hx hb dX4_count_88 (by decide) ?_
    refine lv_isub hx hb dX4_count_89 ?_
    obtain ⟨g1, h⟩ := chk_some h
    refine va_iald hx hb hK hP.1 1 0 rfl rfl (inB_in g1) dX4_count_90 ?_
    exact ret _ _ _ _ _ _ dX4_count_91 rfl hP hS h
  unfold fX4_count at h
  refine lv_iload_n hx hb dX4_count_0 rfl (lv_at hl 1 rfl) ?_
  by_cases c2 : x1 = (0 : Int32)
  · have h := ite_t c2 h
    refine lv_tableIn (off := 59) (tgt := 60) hx hb dX4_count_1 (by rw [c2]; decide) (by rw [c2]; decide) (by rw [c2]; rfl) (by decide) ?_
    refine lv_aload_n hx hb dX4_count_60 rfl (lv_at hl 0 rfl) ?_
    refine va_get (D := D) (ci := 4) (v := .ref (o 0)) (C := RX4) (T := TX4) (N := 24) hx hb hts in_X4 hown hK hP.1 0 rfl rfl 0 (by decide) (hts _ q1249) (fun _ h9 => h9) rfl dX4_count_61 ?_
    refine lv_iconst (v := (2 : Int32)) hx hb dX4_count_64 (by decide) ?_
    refine va_iald hx hb hK hP.1 1 0 rfl rfl (inB_in (by decide)) dX4_count_65 ?_
    exact ret _ _ _ _ _ _ dX4_count_66 rfl hP hS h
  · have h := ite_f c2 h
    by_cases c3 : x1 = (1 : Int32)
    · have h := ite_t c3 h
      refine lv_tableIn (off := 66) (tgt := 67) hx hb dX4_count_1 (by rw [c3]; decide) (by rw [c3]; decide) (by rw [c3]; rfl) (by decide) ?_
      refine lv_aload_n hx hb dX4_count_67 rfl (lv_at hl 0 rfl) ?_
      refine va_get (D := D) (ci := 4) (v := .ref (o 0)) (C := RX4) (T := TX4) (N := 24) hx hb hts in_X4 hown hK hP.1 0 rfl rfl 0 (by decide) (hts _ q1249) (fun _ h9 => h9) rfl dX4_count_68 ?_
      refine lv_iconst (v := (3 : Int32)) hx hb dX4_count_71 (by decide) ?_
      refine va_iald hx hb hK hP.1 1 0 rfl rfl (inB_in (by decide)) dX4_count_72 ?_
      exact ret _ _ _ _ _ _ dX4_count_73 rfl hP hS h
    · have h := ite_f c3 h
      by_cases c4 : x1 = (2 : Int32)
      · have h := ite_t c4 h
        refine lv_tableIn (off := 73) (tgt := 74) hx hb dX4_count_1 (by rw [c4]; decide) (by rw [c4]; decide) (by rw [c4]; rfl) (by decide) ?_
        refine lv_aload_n hx hb dX4_count_74 rfl (lv_at hl 0 rfl) ?_
        refine va_get (D := D) (ci := 4) (v := .ref (o 0)) (C := RX4) (T := TX4) (N := 24) hx hb hts in_X4 hown hK hP.1 0 rfl rfl 0 (by decide) (hts _ q1249) (fun _ h9 => h9) rfl dX4_count_75 ?_
        refine lv_iconst (v := (0 : Int32)) hx hb dX4_count_78 (by decide) ?_
        refine va_iald hx hb hK hP.1 1 0 rfl rfl (inB_in (by decide)) dX4_count_79 ?_
        exact ret _ _ _ _ _ _ dX4_count_80 rfl hP hS h
      · have h := ite_f c4 h
        by_cases c5 : x1 = (3 : Int32)
        · have h := ite_t c5 h
          refine lv_tableIn (off := 80) (tgt := 81) hx hb dX4_count_1 (by rw [c5]; decide) (by rw [c5]; decide) (by rw [c5]; rfl) (by decide) ?_
          exact B81 x1 S _ _ _ hP hS hl h
        · have h := ite_f c5 h
          by_cases c6 : x1 = (4 : Int32)
          · have h := ite_t c6 h
            refine lv_tableIn (off := 80) (tgt := 81) hx hb dX4_count_1 (by rw [c6]; decide) (by rw [c6]; decide) (by rw [c6]; rfl) (by decide) ?_
            exact B81 x1 S _ _ _ hP hS hl h
          · have h := ite_f c6 h
            by_cases c7 : x1 = (5 : Int32)
            · have h := ite_t c7 h
              refine lv_tableIn (off := 91) (tgt := 92) hx hb dX4_count_1 (by rw [c7]; decide) (by rw [c7]; decide) (by rw [c7]; rfl) (by decide) ?_
              refine lv_aload_n hx hb dX4_count_92 rfl (lv_at hl 0 rfl) ?_
              obtain ⟨v10, S9, e8, h⟩ := bnd_some h
              refine gc0_i (va_runV (As := []) (rest := []) ⟨hx, hb, hml, hown, hts⟩ (mX4_onOnes (l := l) (D := D) (cA := cA) (o := o) (A := A)  S e8) (cwV 0 hts (lw_V q1500 q1502 qs56 q90 q1503) rfl rfl rfl (by decide +kernel) ⟨Nat.le_of_ble_eq_true rfl, Nat.le_of_ble_eq_true rfl⟩) (gPreV mKst hK hA hS hP (mRecv hK hP)) rfl rfl hl.1 rfl (lv_room (Nat.le_of_ble_eq_true rfl)) dX4_count_93 ⟨Nat.zero_le _, Nat.zero_le _⟩) hS (fun H locs hP hS => ?_)
              exact ret _ _ _ _ _ _ dX4_count_96 rfl hP hS h
            · have h := ite_f c7 h
              by_cases c11 : x1 = (6 : Int32)
              · have h := ite_t c11 h
                refine lv_tableIn (off := 96) (tgt := 97) hx hb dX4_count_1 (by rw [c11]; decide) (by rw [c11]; decide) (by rw [c11]; rfl) (by decide) ?_
                refine lv_aload_n hx hb dX4_count_97 rfl (lv_at hl 0 rfl) ?_
                refine lv_aload_n hx hb dX4_count_98 rfl (lv_at hl 0 rfl) ?_
                obtain ⟨v14, S13, e12, h⟩ := bnd_some h
                refine gc0_i (va_runV (As := []) (rest := [.ref (o 24)]) ⟨hx, hb, hml, hown, hts⟩ (mX4_onOnes (l := l) (D := D) (cA := cA) (o := o) (A := A)  S e12) (cwV 0 hts (lw_V q1500 q1502 qs56 q90 q1503) rfl rfl rfl (by decide +kernel) ⟨Nat.le_of_ble_eq_true rfl, Nat.le_of_ble_eq_true rfl⟩) (gPreV mKst hK hA hS hP (mRecv hK hP)) rfl rfl hl.1 rfl (lv_room (Nat.le_of_ble_eq_true rfl)) dX4_count_99 ⟨Nat.zero_le _, Nat.zero_le _⟩) hS (fun H locs hP hS => ?_)
                obtain ⟨v17, S16, e15, h⟩ := bnd_some h
                refine gc0_i (va_runV (As := [.int v14]) (rest := []) ⟨hx, hb, hml, hown, hts⟩ (mX4_tiedBy (l := l) (D := D) (cA := cA) (o := o) (A := A) v14 S13 e15) (cwV 1 hts (lw_V q1508 q1510 qs58 q90 q1511) rfl rfl rfl (by decide +kernel) ⟨Nat.le_of_ble_eq_true rfl, Nat.le_of_ble_eq_true rfl⟩) (gPreV mKst hK hA hS hP (mRecv hK hP)) rfl rfl hl.1 rfl (lv_room (Nat.le_of_ble_eq_true rfl)) dX4_count_102 ⟨Nat.zero_le _, Nat.zero_le _⟩) hS (fun H locs hP hS => ?_)
                exact ret _ _ _ _ _ _ dX4_count_105 rfl hP hS h
              · have h := ite_f c11 h
                by_cases c18 : x1 = (7 : Int32)
                · have h := ite_t c18 h
                  refine lv_tableIn (off := 105) (tgt := 106) hx hb dX4_count_1 (by rw [c18]; decide) (by rw [c18]; decide) (by rw [c18]; rfl) (by decide) ?_
                  refine lv_aload_n hx hb dX4_count_106 rfl (lv_at hl 0 rfl) ?_
                  refine va_get (D := D) (ci := 4) (v := .ref (o 0)) (C := RX4) (T := TX4) (N := 24) hx hb hts in_X4 hown hK hP.1 0 rfl rfl 0 (by decide) (hts _ q1249) (fun _ h9 => h9) rfl dX4_count_107 ?_
                  refine lv_bipush (v := (6 : Int32)) hx hb dX4_count_110 (by decide) ?_
                  refine va_iald hx hb hK hP.1 1 0 rfl rfl (inB_in (by decide)) dX4_count_112 ?_
                  exact ret _ _ _ _ _ _ dX4_count_113 rfl hP hS h
                · have h := ite_f c18 h
                  by_cases c19 : x1 = (8 : Int32)
                  · have h := ite_t c19 h
                    refine lv_tableIn (off := 113) (tgt := 114) hx hb dX4_count_1 (by rw [c19]; decide) (by rw [c19]; decide) (by rw [c19]; rfl) (by decide) ?_
                    refine lv_aload_n hx hb dX4_count_114 rfl (lv_at hl 0 rfl) ?_
                    refine va_get (D := D) (ci := 4) (v := .ref (o 0)) (C := RX4) (T := TX4) (N := 24) hx hb hts in_X4 hown hK hP.1 0 rfl rfl 0 (by decide) (hts _ q1249) (fun _ h9 => h9) rfl dX4_count_115 ?_
                    refine lv_bipush (v := (7 : Int32)) hx hb dX4_count_118 (by decide) ?_
                    refine va_iald hx hb hK hP.1 1 0 rfl rfl (inB_in (by decide)) dX4_count_120 ?_
                    exact ret _ _ _ _ _ _ dX4_count_121 rfl hP hS h
                  · have h := ite_f c19 h
                    by_cases c20 : x1 = (9 : Int32)
                    · have h := ite_t c20 h
                      refine lv_tableIn (off := 121) (tgt := 122) hx hb dX4_count_1 (by rw [c20]; decide) (by rw [c20]; decide) (by rw [c20]; rfl) (by decide) ?_
                      refine lv_aload_n hx hb dX4_count_122 rfl (lv_at hl 0 rfl) ?_
                      refine va_get (D := D) (ci := 4) (v := .int (mIF S 22)) (C := RX4) (T := TX4) (N := 24) hx hb hts in_X4 hown hK hP.1 0 rfl rfl 22 (by decide) (hts _ q1271) (fun _ h9 => h9) rfl dX4_count_123 ?_
                      exact ret _ _ _ _ _ _ dX4_count_126 rfl hP hS h
                    · have h := ite_f c20 h
                      by_cases c21 : x1 = (10 : Int32)
                      · have h := ite_t c21 h
                        refine lv_tableIn (off := 126) (tgt := 127) hx hb dX4_count_1 (by rw [c21]; decide) (by rw [c21]; decide) (by rw [c21]; rfl) (by decide) ?_
                        refine lv_aload_n hx hb dX4_count_127 rfl (lv_at hl 0 rfl) ?_
                        refine va_get (D := D) (ci := 4) (v := .ref (o 0)) (C := RX4) (T := TX4) (N := 24) hx hb hts in_X4 hown hK hP.1 0 rfl rfl 0 (by decide) (hts _ q1249) (fun _ h9 => h9) rfl dX4_count_128 ?_
                        refine lv_iconst (v := (1 : Int32)) hx hb dX4_count_131 (by decide) ?_
                        refine va_iald hx hb hK hP.1 1 0 rfl rfl (inB_in (by decide)) dX4_count_132 ?_
                        exact ret _ _ _ _ _ _ dX4_count_133 rfl hP hS h
                      · have h := ite_f c21 h
                        have nc2 := lv_neT (a := 0) c2 (by decide)
                        have nc3 := lv_neT (a := 1) c3 (by decide)
                        have nc4 := lv_neT (a := 2) c4 (by decide)
                        have nc5 := lv_neT (a := 3) c5 (by decide)
                        have nc6 := lv_neT (a := 4) c6 (by decide)
                        have nc7 := lv_neT (a := 5) c7 (by decide)
                        have nc11 := lv_neT (a := 6) c11 (by decide)
                        have nc18 := lv_neT (a := 7) c18 (by decide)
                        have nc19 := lv_neT (a := 8) c19 (by decide)
                        have nc20 := lv_neT (a := 9) c20 (by decide)
                        have nc21 := lv_neT (a := 10) c21 (by decide)
                        refine lv_tableOut (tgt := 134) hx hb dX4_count_1 (by omega) (by decide) ?_
                        refine lv_aload_n hx hb dX4_count_134 rfl (lv_at hl 0 rfl) ?_
                        refine lv_ldc (v := (-1000000001 : Int32)) hx hb hown (hts _ q1336) dX4_count_135 ?_
                        obtain ⟨v24, S23, e22, h⟩ := bnd_some h
                        refine gc0_i (va_runV (As := [.int (-1000000001 : Int32)]) (rest := []) ⟨hx, hb, hml, hown, hts⟩ (mX4_error (l := l) (D := D) (cA := cA) (o := o) (A := A) (-1000000001 : Int32) S e22) (cwV 1 hts (lw_V q1337 q1339 qs30 q90 q1340) rfl rfl rfl (by decide +kernel) ⟨Nat.le_of_ble_eq_true rfl, Nat.le_of_ble_eq_true rfl⟩) (gPreV mKst hK hA hS hP (mRecv hK hP)) rfl rfl hl.1 rfl (lv_room (Nat.le_of_ble_eq_true rfl)) dX4_count_137 ⟨Nat.zero_le _, Nat.zero_le _⟩) hS (fun H locs hP hS => ?_)
                        exact ret _ _ _ _ _ _ dX4_count_140 rfl hP hS h

def bX4_det_110 (rc : Int32 → Int32 → Int32 → MS → Option (Int64 × MS)) (k25 : Int32 → Int32 → Int32 → Int32 → Int64 → Int64 → Int32 → MS → Option (Int64 × MS)) (x1 : Int32) (x2 : Int32) (x3 : Int32) (x4 : Int32) (x5 : Int64) (x7 : Int64) (x9 : Int32) (S : MS) : Option (Int64 × MS) :=
nm (x9 + (1 : Int32)) fun y1 =>
k25 x1 x2 x3 x4 x5 x7 y1 S
def bX4_det_102 (rc : Int32 → Int32 → Int32 → MS → Option (Int64 × MS)) (k25 : Int32 → Int32 → Int32 → Int32 → Int64 → Int64 → Int32 → MS → Option (Int64 × MS)) (x1 : Int32) (x2 : Int32) (x3 : Int32) (x4 : Int32) (x7 : Int64) (x9 : Int32) (t0 : Int64) (t1 : Int64) (S : MS) : Option (Int64 × MS) :=
nm (t0 + t1) fun y2 =>
nm (-x7) fun y3 =>
bX4_det_110 rc k25 x1 x2 x3 x4 y2 y3 x9 S
def bX4_det_67 (rc : Int32 → Int32 → Int32 → MS → Option (Int64 × MS)) (k25 : Int32 → Int32 → Int32 → Int32 → Int64 → Int64 → Int32 → MS → Option (Int64 × MS)) (x1 : Int32) (x2 : Int32) (x3 : Int32) (x4 : Int32) (x5 : Int64) (x7 : Int64) (x9 : Int32) (t0 : Int64) (S : MS) : Option (Int64 × MS) :=
(if (lg_cmp t0 (0 : Int64)) = 0 then
bX4_det_102 rc k25 x1 x2 x3 x4 x7 x9 x5 (0 : Int64) S
else
bnd (rc (x1 + (1 : Int32)) (x2 ||| ((1 : Int32) <<< (x9 &&& 31))) x3 S) fun v7 S6 =>
bX4_det_102 rc k25 x1 x2 x3 x4 x7 x9 x5 ((x7 * t0) * v7) S6)
def bX4_det_25 (rc : Int32 → Int32 → Int32 → MS → Option (Int64 × MS)) (k25 : Int32 → Int32 → Int32 → Int32 → Int64 → Int64 → Int32 → MS → Option (Int64 × MS)) (x1 : Int32) (x2 : Int32) (x3 : Int32) (x4 : Int32) (x5 : Int64) (x7 : Int64) (x9 : Int32) (S : MS) : Option (Int64 × MS) :=
(if x4 ≤ x9 then
some (x5, S)
else
(if ((x2 >>> (x9 &&& 31)) &&& (1 : Int32)) = 0 then
(if x9 = x3 then
chk (inB x1 4) (bX4_det_67 rc k25 x1 x2 x3 x4 x5 x7 x9 (mLA S 9 (x1).toNatClampNeg) S)
else
chk (inB (((4 : Int32) * x1) + x9) 16) (bX4_det_67 rc k25 x1 x2 x3 x4 x5 x7 x9 (mLA S 8 ((((4 : Int32) * x1) + x9)).toNatClampNeg) S))
else
bX4_det_110 rc k25 x1 x2 x3 x4 x5 x7 x9 S))
def lX4_det_25 (rc : Int32 → Int32 → Int32 → MS → Option (Int64 × MS)) : Nat → (Int32 → Int32 → Int32 → Int32 → Int64 → Int64 → Int32 → MS → Option (Int64 × MS))
  | 0 => fun _ _ _ _ _ _ _ _ => none
  | n + 1 => bX4_det_25 rc (lX4_det_25 rc n)
def gX4_det (rc : Int32 → Int32 → Int32 → MS → Option (Int64 × MS)) (x1 : Int32) (x2 : Int32) (x3 : Int32) (S : MS) : Option (Int64 × MS) :=
nm (mIA S 0 ((3 : Int32)).toNatClampNeg) fun y13 =>
(if x1 = y13 then
some ((1 : Int64), S)
else
lX4_det_25 rc FU x1 x2 x3 y13 (0 : Int64) (1 : Int64) (0 : Int32) S)
def fX4_det : Nat → (Int32 → Int32 → Int32 → MS → Option (Int64 × MS))
  | 0 => fun _ _ _ _ => none
  | d + 1 => gX4_det (fX4_det d)
set_option maxHeartbeats 4000000 in
set_option maxRecDepth 100000 in
theorem nX4_det {l : Launch} {D : va_G} {cA : Nat → ClassId} {o : Nat → Nat} {A : Nat → Prop} (d : Nat) (rc : Int32 → Int32 → Int32 → MS → Option (Int64 × MS)) (hrc : ∀ (a0 : Int32) (a1 : Int32) (a2 : Int32) (S : MS) (out : (Int64 × MS)), rc a0 a1 a2 S = some out → Met l yX4_det (ws_ yX4_det cX4_det 12 (some .long)) ({ frames := 1 * d + 0, cells := 0, slots := 0, locals := 31 * d + 0 } : Room) (gPc (mK D cA) (mP D cA o A) A [.ref (o 24), .int a0, .int a1, .int a2] S) (gQl (mK D cA) (mP D cA o A) A out) 0 0 A) (x1 : Int32) (x2 : Int32) (x3 : Int32) (S : MS) {out : (Int64 × MS)} (h : gX4_det rc x1 x2 x3 S = some out) : Met l yX4_det (ws_ yX4_det cX4_det 12 (some .long)) ({ frames := 1 * (d + 1) + 0, cells := 0, slots := 0, locals := 31 * (d + 1) + 0 } : Room) (gPc (mK D cA) (mP D cA o A) A [.ref (o 24), .int x1, .int x2, .int x3] S) (gQl (mK D cA) (mP D cA o A) A out) 0 0 A := by
  refine gMet_l (by decide) (Nat.le_of_ble_eq_true rfl) ?_ mKst
  intro p e s m below meth c Q ls args H locs hC hP hS hl ret
  obtain ⟨hx, hb, hml, hown, hts, hA, hK⟩ := hC
  have hown : s.vm.findClass RX4 = some m.cls := hown
  have hl : lv_has ls 12 [(0, .ref (o 24)), (1, .int x1), (2, .int x2), (3, .int x3)] := hl
  have L25 : ∀ (n25 : Nat) (x1 : Int32) (x2 : Int32) (x3 : Int32) (x4 : Int32) (x5 : Int64) (x7 : Int64) (x9 : Int32) (S : MS) (H : Heap) (locs : List Loc) (ls : Array Slot), mP D cA o A S H → va_S A s.heap H locs → lv_has ls 12 [(0, .ref (o 24)), (1, .int x1), (2, .int x2), (3, .int x3), (4, .int x4), (5, .long x5), (7, .long x7), (9, .int x9)] → lX4_det_25 rc n25 x1 x2 x3 x4 x5 x7 x9 S = some out → W p l e ({ frames := 1 * (d + 1) + 0, cells := 0, slots := 0, locals := 31 * (d + 1) + 0 } : Room) s m args below meth c H locs 0 0 Q (F0 m 25 ls []) := by
    intro n25
    induction n25 with
    | zero =>
      intro x1 x2 x3 x4 x5 x7 x9 S H locs ls hP hS hl h
      cases h
    | succ n25 ih25 =>
      have B110 : ∀ (x1 : Int32) (x2 : Int32) (x3 : Int32) (x4 : Int32) (x5 : Int64) (x7 : Int64) (x9 : Int32) (S : MS) (H : Heap) (locs : List Loc) (ls : Array Slot), mP D cA o A S H → va_S A s.heap H locs → lv_has ls 12 [(0, .ref (o 24)), (1, .int x1), (2, .int x2), (3, .int x3), (4, .int x4), (5, .long x5), (7, .long x7), (9, .int x9)] → bX4_det_110 rc (lX4_det_25 rc n25) x1 x2 x3 x4 x5 x7 x9 S = some out → W p l e ({ frames := 1 * (d + 1) + 0, cells := 0, slots := 0, locals := 31 * (d + 1) + 0 } : Room) s m args below meth c H locs 0 0 Q (F0 m 110 ls []) := by
        intro x1 x2 x3 x4 x5 x7 x9 S H locs ls hP hS hl h
        unfold bX4_det_110 at h
        obtain ⟨y1, ey1⟩ : ∃ y : Int32, y = x9 + (1 : Int32) := ⟨_, rfl⟩
        refine lv_iinc (v := y1) (lv' := [(9, .int y1), (0, .ref (o 24)), (1, .int x1), (2, .int x2), (3, .int x3), (4, .int x4), (5, .long x5), (7, .long x7)]) hx hb dX4_det_110 hl (k := 7) rfl (by rw [ey1]; rfl) (by decide) rfl (fun ls hl => ?_)
        have h := nm_at ey1 h
        refine lv_goto (tgt := 25) hx hb dX4_det_113 (by decide) ?_
        exact ih25 x1 x2 x3 x4 x5 x7 y1 S _ _ _ hP hS (lv_sub hl [1, 2, 3, 4, 5, 6, 7, 0] rfl) h
      have B102 : ∀ (x1 : Int32) (x2 : Int32) (x3 : Int32) (x4 : Int32) (x7 : Int64) (x9 : Int32) (t0 : Int64) (t1 : Int64) (S : MS) (H : Heap) (locs : List Loc) (ls : Array Slot), mP D cA o A S H → va_S A s.heap H locs → lv_has ls 12 [(0, .ref (o 24)), (1, .int x1), (2, .int x2), (3, .int x3), (4, .int x4), (7, .long x7), (9, .int x9)] → bX4_det_102 rc (lX4_det_25 rc n25) x1 x2 x3 x4 x7 x9 t0 t1 S = some out → W p l e ({ frames := 1 * (d + 1) + 0, cells := 0, slots := 0, locals := 31 * (d + 1) + 0 } : Room) s m args below meth c H locs 0 0 Q (F0 m 102 ls [.long t1, .long t0]) := by
        intro x1 x2 x3 x4 x7 x9 t0 t1 S H locs ls hP hS hl h
        unfold bX4_det_102 at h
        refine lv_ladd hx hb dX4_det_102 ?_
        refine lv_topl (fun y2 ey2 => ?_)
        have h := nm_at ey2 h
        refine lv_lstore (lv' := [(5, .long y2), (0, .ref (o 24)), (1, .int x1), (2, .int x2), (3, .int x3), (4, .int x4), (7, .long x7), (9, .int x9)]) hx hb dX4_det_103 hl (by decide) rfl (fun ls hl => ?_)
        refine lv_lload hx hb dX4_det_105 (lv_at hl 6 rfl) ?_
        refine lv_lneg hx hb dX4_det_107 ?_
        refine lv_topl (fun y3 ey3 => ?_)
        have h := nm_at ey3 h
        refine lv_lstore (lv' := [(7, .long y3), (5, .long y2), (0, .ref (o 24)), (1, .int x1), (2, .int x2), (3, .int x3), (4, .int x4), (9, .int x9)]) hx hb dX4_det_108 hl (by decide) rfl (fun ls hl => ?_)
        exact B110 x1 x2 x3 x4 y2 y3 x9 S _ _ _ hP hS (lv_sub hl [2, 3, 4, 5, 6, 1, 0, 7] rfl) h
      have B67 : ∀ (x1 : Int32) (x2 : Int32) (x3 : Int32) (x4 : Int32) (x5 : Int64) (x7 : Int64) (x9 : Int32) (t0 : Int64) (S : MS) (H : Heap) (locs : List Loc) (ls : Array Slot), mP D cA o A S H → va_S A s.heap H locs → lv_has ls 12 [(0, .ref (o 24)), (1, .int x1), (2, .int x2), (3, .int x3), (4, .int x4), (5, .long x5), (7, .long x7), (9, .int x9)] → bX4_det_67 rc (lX4_det_25 rc n25) x1 x2 x3 x4 x5 x7 x9 t0 S = some out → W p l e ({ frames := 1 * (d + 1) + 0, cells := 0, slots := 0, locals := 31 * (d + 1) + 0 } : Room) s m args below meth c H locs 0 0 Q (F0 m 67 ls [.long t0]) := by
        intro x1 x2 x3 x4 x5 x7 x9 t0 S H locs ls hP hS hl h
        unfold bX4_det_67 at h
        refine lv_lstore (lv' := [(10, .long t0), (0, .ref (o 24)), (1, .int x1), (2, .int x2), (3, .int x3), (4, .int x4), (5, .long x5), (7, .long x7), (9, .int x9)]) hx hb dX4_det_67 hl (by decide) rfl (fun ls hl => ?_)
        refine lv_lload hx hb dX4_det_69 (lv_at hl 6 rfl) ?_
        refine lv_lload hx hb dX4_det_71 (lv_at hl 0 rfl) ?_
        refine lv_lconst (v := (0 : Int64)) hx hb dX4_det_73 (by decide) ?_
        refine W.lcmp hx hb dX4_det_74 ?_
        refine lv_if_ne (tgt := 82) hx hb dX4_det_75 (by decide) (fun c4 => ?_) (fun c4 => ?_)
        · have h := ite_f c4 h
          refine lv_lload hx hb dX4_det_82 (lv_at hl 7 rfl) ?_
          refine lv_lload hx hb dX4_det_84 (lv_at hl 0 rfl) ?_
          refine lv_lmul hx hb dX4_det_86 ?_
          refine lv_aload_n hx hb dX4_det_87 rfl (lv_at hl 1 rfl) ?_
          refine lv_iload_n hx hb dX4_det_88 rfl (lv_at hl 2 rfl) ?_
          refine lv_iconst (v := (1 : Int32)) hx hb dX4_det_89 (by decide) ?_
          refine lv_iadd hx hb dX4_det_90 ?_
          refine lv_iload_n hx hb dX4_det_91 rfl (lv_at hl 3 rfl) ?_
          refine lv_iconst (v := (1 : Int32)) hx hb dX4_det_92 (by decide) ?_
          refine lv_iload hx hb dX4_det_93 (lv_at hl 8 rfl) ?_
          refine lv_ishl hx hb dX4_det_95 ?_
          refine lv_ior hx hb dX4_det_96 ?_
          refine lv_iload_n hx hb dX4_det_97 rfl (lv_at hl 4 rfl) ?_
          obtain ⟨v7, S6, e5, h⟩ := bnd_some h
          refine gc0_l (va_runV (As := [.int (x1 + (1 : Int32)), .int (x2 ||| ((1 : Int32) <<< (x9 &&& 31))), .int x3]) (rest := [.long (x7 * t0), .long x5]) ⟨hx, hb, hml, hown, hts⟩ (hrc (x1 + (1 : Int32)) (x2 ||| ((1 : Int32) <<< (x9 &&& 31))) x3 S _ e5) (cwV 3 hts (lw_V q1516 q1518 qs60 q90 q1519) rfl rfl rfl (by decide +kernel) ⟨by dsimp only; omega, by dsimp only; omega⟩) (gPreV mKst hK hA hS hP (mRecv hK hP)) rfl rfl hl.1 rfl (lv_room (Nat.le_of_ble_eq_true rfl)) dX4_det_98 ⟨Nat.zero_le _, Nat.zero_le _⟩) hS (fun H locs hP hS => ?_)
          refine lv_lmul hx hb dX4_det_101 ?_
          exact B102 x1 x2 x3 x4 x7 x9 x5 ((x7 * t0) * v7) S6 _ _ _ hP hS (lv_sub hl [1, 2, 3, 4, 5, 7, 8] rfl) h
        · have h := ite_t c4 h
          refine lv_lconst (v := (0 : Int64)) hx hb dX4_det_78 (by decide) ?_
          refine lv_goto (tgt := 102) hx hb dX4_det_79 (by decide) ?_
          exact B102 x1 x2 x3 x4 x7 x9 x5 (0 : Int64) S _ _ _ hP hS (lv_sub hl [1, 2, 3, 4, 5, 7, 8] rfl) h
      intro x1 x2 x3 x4 x5 x7 x9 S H locs ls hP hS hl h
      replace h : bX4_det_25 rc (lX4_det_25 rc n25) x1 x2 x3 x4 x5 x7 x9 S = some out := h
      unfold bX4_det_25 at h
      refine lv_iload hx hb dX4_det_25 (lv_at hl 7 rfl) ?_
      refine lv_iload hx hb dX4_det_27 (lv_at hl 4 rfl) ?_
      refine lv_icmp_ge (tgt := 116) hx hb dX4_det_29 (by decide) (fun c8 => ?_) (fun c8 => ?_)
      · have h := ite_t c8 h
        refine lv_lload hx hb dX4_det_116 (lv_at hl 5 rfl) ?_
        exact ret _ _ _ _ _ _ dX4_det_118 hP hS h
      · have h := ite_f c8 h
        refine lv_iload_n hx hb dX4_det_32 rfl (lv_at hl 2 rfl) ?_
        refine lv_iload hx hb dX4_det_33 (lv_at hl 7 rfl) ?_
        refine lv_ishr hx hb dX4_det_35 ?_
        refine lv_iconst (v := (1 : Int32)) hx hb dX4_det_36 (by decide) ?_
        refine lv_iand hx hb dX4_det_37 ?_
        refine lv_if_ne (tgt := 110) hx hb dX4_det_38 (by decide) (fun c9 => ?_) (fun c9 => ?_)
        · have h := ite_f c9 h
          exact B110 x1 x2 x3 x4 x5 x7 x9 S _ _ _ hP hS hl h
        · have h := ite_t c9 h
          refine lv_iload hx hb dX4_det_41 (lv_at hl 7 rfl) ?_
          refine lv_iload_n hx hb dX4_det_43 rfl (lv_at hl 3 rfl) ?_
          refine lv_icmp_ne (tgt := 56) hx hb dX4_det_44 (by decide) (fun c10 => ?_) (fun c10 => ?_)
          · have h := ite_f c10 h
            refine lv_aload_n hx hb dX4_det_56 rfl (lv_at hl 0 rfl) ?_
            refine va_get (D := D) (ci := 4) (v := .ref (o 8)) (C := RX4) (T := TX4) (N := 24) hx hb hts in_X4 hown hK hP.1 0 rfl rfl 8 (by decide) (hts _ q1257) (fun _ h9 => h9) rfl dX4_det_57 ?_
            refine lv_iconst (v := (4 : Int32)) hx hb dX4_det_60 (by decide) ?_
            refine lv_iload_n hx hb dX4_det_61 rfl (lv_at hl 1 rfl) ?_
            refine lv_imul hx hb dX4_det_62 ?_
            refine lv_iload hx hb dX4_det_63 (lv_at hl 7 rfl) ?_
            refine lv_iadd hx hb dX4_det_65 ?_
            obtain ⟨g11, h⟩ := chk_some h
            refine va_lald hx hb hK hP.1 8 3 rfl rfl (inB_in g11) dX4_det_66 ?_
            exact B67 x1 x2 x3 x4 x5 x7 x9 (mLA S 8 ((((4 : Int32) * x1) + x9)).toNatClampNeg) S _ _ _ hP hS hl h
          · have h := ite_t c10 h
            refine lv_aload_n hx hb dX4_det_47 rfl (lv_at hl 0 rfl) ?_
            refine va_get (D := D) (ci := 4) (v := .ref (o 9)) (C := RX4) (T := TX4) (N := 24) hx hb hts in_X4 hown hK hP.1 0 rfl rfl 9 (by decide) (hts _ q1258) (fun _ h9 => h9) rfl dX4_det_48 ?_
            refine lv_iload_n hx hb dX4_det_51 rfl (lv_at hl 1 rfl) ?_
            obtain ⟨g12, h⟩ := chk_some h
            refine va_lald hx hb hK hP.1 9 3 rfl rfl (inB_in g12) dX4_det_52 ?_
            refine lv_goto (tgt := 67) hx hb dX4_det_53 (by decide) ?_
            exact B67 x1 x2 x3 x4 x5 x7 x9 (mLA S 9 (x1).toNatClampNeg) S _ _ _ hP hS hl h
  unfold gX4_det at h
  refine lv_aload_n hx hb dX4_det_0 rfl (lv_at hl 0 rfl) ?_
  refine va_get (D := D) (ci := 4) (v := .ref (o 0)) (C := RX4) (T := TX4) (N := 24) hx hb hts in_X4 hown hK hP.1 0 rfl rfl 0 (by decide) (hts _ q1249) (fun _ h9 => h9) rfl dX4_det_1 ?_
  refine lv_iconst (v := (3 : Int32)) hx hb dX4_det_4 (by decide) ?_
  refine va_iald hx hb hK hP.1 1 0 rfl rfl (inB_in (by decide)) dX4_det_5 ?_
  refine lv_topi (fun y13 ey13 => ?_)
  have h := nm_at ey13 h
  refine lv_istore (lv' := [(4, .int y13), (0, .ref (o 24)), (1, .int x1), (2, .int x2), (3, .int x3)]) hx hb dX4_det_6 hl (by decide) rfl (fun ls hl => ?_)
  refine lv_iload_n hx hb dX4_det_8 rfl (lv_at hl 2 rfl) ?_
  refine lv_iload hx hb dX4_det_9 (lv_at hl 0 rfl) ?_
  refine lv_icmp_ne (tgt := 16) hx hb dX4_det_11 (by decide) (fun c14 => ?_) (fun c14 => ?_)
  · have h := ite_f c14 h
    refine lv_lconst (v := (0 : Int64)) hx hb dX4_det_16 (by decide) ?_
    refine lv_lstore (lv' := [(5, .long (0 : Int64)), (4, .int y13), (0, .ref (o 24)), (1, .int x1), (2, .int x2), (3, .int x3)]) hx hb dX4_det_17 hl (by decide) rfl (fun ls hl => ?_)
    refine lv_lconst (v := (1 : Int64)) hx hb dX4_det_19 (by decide) ?_
    refine lv_lstore (lv' := [(7, .long (1 : Int64)), (5, .long (0 : Int64)), (4, .int y13), (0, .ref (o 24)), (1, .int x1), (2, .int x2), (3, .int x3)]) hx hb dX4_det_20 hl (by decide) rfl (fun ls hl => ?_)
    refine lv_iconst (v := (0 : Int32)) hx hb dX4_det_22 (by decide) ?_
    refine lv_istore (lv' := [(9, .int (0 : Int32)), (7, .long (1 : Int64)), (5, .long (0 : Int64)), (4, .int y13), (0, .ref (o 24)), (1, .int x1), (2, .int x2), (3, .int x3)]) hx hb dX4_det_23 hl (by decide) rfl (fun ls hl => ?_)
    exact L25 FU x1 x2 x3 y13 (0 : Int64) (1 : Int64) (0 : Int32) S _ _ _ hP hS (lv_sub hl [4, 5, 6, 7, 3, 2, 1, 0] rfl) h
  · have h := ite_t c14 h
    refine lv_lconst (v := (1 : Int64)) hx hb dX4_det_14 (by decide) ?_
    exact ret _ _ _ _ _ _ dX4_det_15 hP hS h
theorem oX4_det {l : Launch} {D : va_G} {cA : Nat → ClassId} {o : Nat → Nat} {A : Nat → Prop} (d : Nat) : ∀ (x1 : Int32) (x2 : Int32) (x3 : Int32) (S : MS) (out : (Int64 × MS)), fX4_det d x1 x2 x3 S = some out → Met l yX4_det (ws_ yX4_det cX4_det 12 (some .long)) ({ frames := 1 * d + 0, cells := 0, slots := 0, locals := 31 * d + 0 } : Room) (gPc (mK D cA) (mP D cA o A) A [.ref (o 24), .int x1, .int x2, .int x3] S) (gQl (mK D cA) (mP D cA o A) A out) 0 0 A := by
  induction d with
  | zero => intro x1 x2 x3 S out h; cases h
  | succ d ih => intro x1 x2 x3 S out h; exact nX4_det d _ ih x1 x2 x3 S h
theorem mX4_det {l : Launch} {D : va_G} {cA : Nat → ClassId} {o : Nat → Nat} {A : Nat → Prop} (d : Nat) (x1 : Int32) (x2 : Int32) (x3 : Int32) (S : MS) {out : (Int64 × MS)} (h : fX4_det d x1 x2 x3 S = some out) : Met l yX4_det (ws_ yX4_det cX4_det 12 (some .long)) ({ frames := 1 * d + 0, cells := 0, slots := 0, locals := 31 * d + 0 } : Room) (gPc (mK D cA) (mP D cA o A) A [.ref (o 24), .int x1, .int x2, .int x3] S) (gQl (mK D cA) (mP D cA o A) A out) 0 0 A := oX4_det d x1 x2 x3 S out h

def bX4_doesHold_23 (t0 : Int32) (S : MS) : Option (Int32 × MS) :=
chk (isB t0) (some (t0, S))
def fX4_doesHold (x1 : Int32) (S : MS) : Option (Int32 × MS) :=
bnd (fX4_tiedBy x1 S) fun v4 S3 =>
(if v4 = (((1 : Int32) <<< ((mIA S3 0 ((3 : Int32)).toNatClampNeg) &&& 31)) - (1 : Int32)) then
bX4_doesHold_23 (1 : Int32) S3
else
bX4_doesHold_23 (0 : Int32) S3)
set_option maxHeartbeats 4000000 in
set_option maxRecDepth 100000 in
theorem mX4_doesHold {l : Launch} {D : va_G} {cA : Nat → ClassId} {o : Nat → Nat} {A : Nat → Prop} (x1 : Int32) (S : MS) {out : (Int32 × MS)} (h : fX4_doesHold x1 S = some out) : Met l yX4_doesHold (ws_ yX4_doesHold cX4_doesHold 2 (some .boolean)) ({ frames := 2, cells := 0, slots := 0, locals := 48 } : Room) (gPc (mK D cA) (mP D cA o A) A [.ref (o 24), .int x1] S) (gQi (mK D cA) (mP D cA o A) A out) 0 0 A := by
  refine gMet_z (by decide) (Nat.le_of_ble_eq_true rfl) ?_ mKst
  intro p e s m below meth c Q ls args H locs hC hP hS hl ret
  obtain ⟨hx, hb, hml, hown, hts, hA, hK⟩ := hC
  have hown : s.vm.findClass RX4 = some m.cls := hown
  have hl : lv_has ls 2 [(0, .ref (o 24)), (1, .int x1)] := hl
  have B23 : ∀ (t0 : Int32) (S : MS) (H : Heap) (locs : List Loc) (ls : Array Slot), mP D cA o A S H → va_S A s.heap H locs → lv_has ls 2 [(0, .ref (o 24))] → bX4_doesHold_23  t0 S = some out → W p l e ({ frames := 2, cells := 0, slots := 0, locals := 48 } : Room) s m args below meth c H locs 0 0 Q (F0 m 23 ls [.int t0]) := by
    intro t0 S H locs ls hP hS hl h
    unfold bX4_doesHold_23 at h
    obtain ⟨g1, h⟩ := chk_some h
    exact ret _ _ _ _ _ _ dX4_doesHold_23 (isB_nar g1) hP hS h
  unfold fX4_doesHold at h
  refine lv_aload_n hx hb dX4_doesHold_0 rfl (lv_at hl 0 rfl) ?_
  refine lv_iload_n hx hb dX4_doesHold_1 rfl (lv_at hl 1 rfl) ?_
  obtain ⟨v4, S3, e2, h⟩ := bnd_some h
  refine gc0_i (va_runV (As := [.int x1]) (rest := []) ⟨hx, hb, hml, hown, hts⟩ (mX4_tiedBy (l := l) (D := D) (cA := cA) (o := o) (A := A) x1 S e2) (cwV 1 hts (lw_V q1508 q1510 qs58 q90 q1511) rfl rfl rfl (by decide +kernel) ⟨Nat.le_of_ble_eq_true rfl, Nat.le_of_ble_eq_true rfl⟩) (gPreV mKst hK hA hS hP (mRecv hK hP)) rfl rfl hl.1 rfl (lv_room (Nat.le_of_ble_eq_true rfl)) dX4_doesHold_2 ⟨Nat.zero_le _, Nat.zero_le _⟩) hS (fun H locs hP hS => ?_)
  refine lv_iconst (v := (1 : Int32)) hx hb dX4_doesHold_5 (by decide) ?_
  refine lv_aload_n hx hb dX4_doesHold_6 rfl (lv_at hl 0 rfl) ?_
  refine va_get (D := D) (ci := 4) (v := .ref (o 0)) (C := RX4) (T := TX4) (N := 24) hx hb hts in_X4 hown hK hP.1 0 rfl rfl 0 (by decide) (hts _ q1249) (fun _ h9 => h9) rfl dX4_doesHold_7 ?_
  refine lv_iconst (v := (3 : Int32)) hx hb dX4_doesHold_10 (by decide) ?_
  refine va_iald hx hb hK hP.1 1 0 rfl rfl (inB_in (by decide)) dX4_doesHold_11 ?_
  refine lv_ishl hx hb dX4_doesHold_12 ?_
  refine lv_iconst (v := (1 : Int32)) hx hb dX4_doesHold_13 (by decide) ?_
  refine lv_isub hx hb dX4_doesHold_14 ?_
  refine lv_icmp_ne (tgt := 22) hx hb dX4_doesHold_15 (by decide) (fun c5 => ?_) (fun c5 => ?_)
  · have h := ite_f c5 h
    refine lv_iconst (v := (0 : Int32)) hx hb dX4_doesHold_22 (by decide) ?_
    exact B23 (0 : Int32) S3 _ _ _ hP hS (lv_sub hl [0] rfl) h
  · have h := ite_t c5 h
    refine lv_iconst (v := (1 : Int32)) hx hb dX4_doesHold_18 (by decide) ?_
    refine lv_goto (tgt := 23) hx hb dX4_doesHold_19 (by decide) ?_
    exact B23 (1 : Int32) S3 _ _ _ hP hS (lv_sub hl [0] rfl) h

def bX4_isSolved_89 (k89 : Int32 → MS → Option (Int32 × MS)) (x1 : Int32) (S : MS) : Option (Int32 × MS) :=
(if (mIA S 0 ((3 : Int32)).toNatClampNeg) ≤ x1 then
some ((1 : Int32), S)
else
bnd (fX4_det DEP (0 : Int32) (0 : Int32) x1 S) fun v4 S3 =>
chk (inB x1 4) (nm (sLA S3 10 (vp_updL (mLA S3 10) (x1).toNatClampNeg v4)) fun S6 =>
nm (x1 + (1 : Int32)) fun y7 =>
k89 y7 S6))
def lX4_isSolved_89 : Nat → (Int32 → MS → Option (Int32 × MS))
  | 0 => fun _ _ => none
  | n + 1 => bX4_isSolved_89 (lX4_isSolved_89 n)
def bX4_isSolved_70 (k45 : Int32 → MS → Option (Int32 × MS)) (x1 : Int32) (S : MS) : Option (Int32 × MS) :=
nm (x1 + (1 : Int32)) fun y8 =>
k45 y8 S
def bX4_isSolved_45 (k45 : Int32 → MS → Option (Int32 × MS)) (x1 : Int32) (S : MS) : Option (Int32 × MS) :=
(if (mIA S 0 ((2 : Int32)).toNatClampNeg) ≤ x1 then
bnd (fX4_det DEP (0 : Int32) (0 : Int32) (-1 : Int32) S) fun v12 S11 =>
lX4_isSolved_89 FU (0 : Int32) (sLF S11 v12)
else
bnd (fX4_of x1 (5 : Int32) S) fun v15 S14 =>
(if v15 = (1 : Int32) then
bn1 (fX4_adds x1 S14) fun S18 =>
bX4_isSolved_70 k45 x1 S18
else
bX4_isSolved_70 k45 x1 S14))
def lX4_isSolved_45 : Nat → (Int32 → MS → Option (Int32 × MS))
  | 0 => fun _ _ => none
  | n + 1 => bX4_isSolved_45 (lX4_isSolved_45 n)
def bX4_isSolved_15 (k15 : Int32 → MS → Option (Int32 × MS)) (x1 : Int32) (S : MS) : Option (Int32 × MS) :=
(if (16 : Int32) ≤ x1 then
lX4_isSolved_45 FU (0 : Int32) S
else
chk (inB x1 16) (nm (sLA S 8 (vp_updL (mLA S 8) (x1).toNatClampNeg (0 : Int64))) fun S21 =>
chk (inB (x1 / (4 : Int32)) 4) (nm (sLA S21 9 (vp_updL (mLA S21 9) ((x1 / (4 : Int32))).toNatClampNeg (0 : Int64))) fun S23 =>
nm (x1 + (1 : Int32)) fun y24 =>
k15 y24 S23)))
def lX4_isSolved_15 : Nat → (Int32 → MS → Option (Int32 × MS))
  | 0 => fun _ _ => none
  | n + 1 => bX4_isSolved_15 (lX4_isSolved_15 n)
def fX4_isSolved (S : MS) : Option (Int32 × MS) :=
bnd (fX4_onOnes  S) fun v27 S26 =>
bnd (fX4_doesHold v27 S26) fun v30 S29 =>
(if v30 = 0 then
some ((0 : Int32), S29)
else
lX4_isSolved_15 FU (0 : Int32) S29)
set_option maxHeartbeats 4000000 in
set_option maxRecDepth 100000 in
theorem mX4_isSolved {l : Launch} {D : va_G} {cA : Nat → ClassId} {o : Nat → Nat} {A : Nat → Prop} (S : MS) {out : (Int32 × MS)} (h : fX4_isSolved  S = some out) : Met l yX4_isSolved (ws_ yX4_isSolved cX4_isSolved 2 (some .boolean)) ({ frames := 9, cells := 0, slots := 0, locals := 279 } : Room) (gPc (mK D cA) (mP D cA o A) A [.ref (o 24)] S) (gQi (mK D cA) (mP D cA o A) A out) 0 0 A := by
  refine gMet_z (by decide) (Nat.le_of_ble_eq_true rfl) ?_ mKst
  intro p e s m below meth c Q ls args H locs hC hP hS hl ret
  obtain ⟨hx, hb, hml, hown, hts, hA, hK⟩ := hC
  have hown : s.vm.findClass RX4 = some m.cls := hown
  have hl : lv_has ls 2 [(0, .ref (o 24))] := hl
  have L89 : ∀ (n89 : Nat) (x1 : Int32) (S : MS) (H : Heap) (locs : List Loc) (ls : Array Slot), mP D cA o A S H → va_S A s.heap H locs → lv_has ls 2 [(0, .ref (o 24)), (1, .int x1)] → lX4_isSolved_89 n89 x1 S = some out → W p l e ({ frames := 9, cells := 0, slots := 0, locals := 279 } : Room) s m args below meth c H locs 0 0 Q (F0 m 89 ls []) := by
    intro n89
    induction n89 with
    | zero =>
      intro x1 S H locs ls hP hS hl h
      cases h
    | succ n89 ih89 =>
      intro x1 S H locs ls hP hS hl h
      replace h : bX4_isSolved_89 (lX4_isSolved_89 n89) x1 S = some out := h
      unfold bX4_isSolved_89 at h
      refine lv_iload_n hx hb dX4_isSolved_89 rfl (lv_at hl 1 rfl) ?_
      refine lv_aload_n hx hb dX4_isSolved_90 rfl (lv_at hl 0 rfl) ?_
      refine va_get (D := D) (ci := 4) (v := .ref (o 0)) (C := RX4) (T := TX4) (N := 24) hx hb hts in_X4 hown hK hP.1 0 rfl rfl 0 (by decide) (hts _ q1249) (fun _ h9 => h9) rfl dX4_isSolved_91 ?_
      refine lv_iconst (v := (3 : Int32)) hx hb dX4_isSolved_94 (by decide) ?_
      refine va_iald hx hb hK hP.1 1 0 rfl rfl (inB_in (by decide)) dX4_isSolved_95 ?_
      refine lv_icmp_ge (tgt := 118) hx hb dX4_isSolved_96 (by decide) (fun c1 => ?_) (fun c1 => ?_)
      · have h := ite_t c1 h
        refine lv_iconst (v := (1 : Int32)) hx hb dX4_isSolved_118 (by decide) ?_
        exact ret _ _ _ _ _ _ dX4_isSolved_119 rfl hP hS h
      · have h := ite_f c1 h
        refine lv_aload_n hx hb dX4_isSolved_99 rfl (lv_at hl 0 rfl) ?_
        refine va_get (D := D) (ci := 4) (v := .ref (o 10)) (C := RX4) (T := TX4) (N := 24) hx hb hts in_X4 hown hK hP.1 0 rfl rfl 10 (by decide) (hts _ q1259) (fun _ h9 => h9) rfl dX4_isSolved_100 ?_
        refine lv_iload_n hx hb dX4_isSolved_103 rfl (lv_at hl 1 rfl) ?_
        refine lv_aload_n hx hb dX4_isSolved_104 rfl (lv_at hl 0 rfl) ?_
        refine lv_iconst (v := (0 : Int32)) hx hb dX4_isSolved_105 (by decide) ?_
        refine lv_iconst (v := (0 : Int32)) hx hb dX4_isSolved_106 (by decide) ?_
        refine lv_iload_n hx hb dX4_isSolved_107 rfl (lv_at hl 1 rfl) ?_
        obtain ⟨v4, S3, e2, h⟩ := bnd_some h
        refine gc0_l (va_runV (As := [.int (0 : Int32), .int (0 : Int32), .int x1]) (rest := [.int x1, .ref (o 10)]) ⟨hx, hb, hml, hown, hts⟩ (mX4_det (l := l) (D := D) (cA := cA) (o := o) (A := A) DEP (0 : Int32) (0 : Int32) x1 S e2) (cwV 3 hts (lw_V q1516 q1518 qs60 q90 q1519) rfl rfl rfl (by decide +kernel) ⟨Nat.le_of_ble_eq_true rfl, Nat.le_of_ble_eq_true rfl⟩) (gPreV mKst hK hA hS hP (mRecv hK hP)) rfl rfl hl.1 rfl (lv_room (Nat.le_of_ble_eq_true rfl)) dX4_isSolved_108 ⟨Nat.zero_le _, Nat.zero_le _⟩) hS (fun H locs hP hS => ?_)
        obtain ⟨g5, h⟩ := chk_some h
        refine va_last hx hb hK hP.1 hP.2 hS 10 3 rfl rfl (inB_in g5) dX4_isSolved_111 (fun H locs hP1 hD1 hS => ?_)
        obtain ⟨S6, eS6⟩ : ∃ y : MS, y = (sLA S3 10 (vp_updL (mLA S3 10) (x1).toNatClampNeg v4)) := ⟨_, rfl⟩
        have hP : mP D cA o A S6 H := by rw [eS6]; exact ⟨hP1, hD1⟩
        have h := nm_at eS6 h
        obtain ⟨y7, ey7⟩ : ∃ y : Int32, y = x1 + (1 : Int32) := ⟨_, rfl⟩
        refine lv_iinc (v := y7) (lv' := [(1, .int y7), (0, .ref (o 24))]) hx hb dX4_isSolved_112 hl (k := 1) rfl (by rw [ey7]; rfl) (by decide) rfl (fun ls hl => ?_)
        have h := nm_at ey7 h
        refine lv_goto (tgt := 89) hx hb dX4_isSolved_115 (by decide) ?_
        exact ih89 y7 S6 _ _ _ hP hS (lv_sub hl [1, 0] rfl) h
  have L45 : ∀ (n45 : Nat) (x1 : Int32) (S : MS) (H : Heap) (locs : List Loc) (ls : Array Slot), mP D cA o A S H → va_S A s.heap H locs → lv_has ls 2 [(0, .ref (o 24)), (1, .int x1)] → lX4_isSolved_45 n45 x1 S = some out → W p l e ({ frames := 9, cells := 0, slots := 0, locals := 279 } : Room) s m args below meth c H locs 0 0 Q (F0 m 45 ls []) := by
    intro n45
    induction n45 with
    | zero =>
      intro x1 S H locs ls hP hS hl h
      cases h
    | succ n45 ih45 =>
      have B70 : ∀ (x1 : Int32) (S : MS) (H : Heap) (locs : List Loc) (ls : Array Slot), mP D cA o A S H → va_S A s.heap H locs → lv_has ls 2 [(0, .ref (o 24)), (1, .int x1)] → bX4_isSolved_70 (lX4_isSolved_45 n45) x1 S = some out → W p l e ({ frames := 9, cells := 0, slots := 0, locals := 279 } : Room) s m args below meth c H locs 0 0 Q (F0 m 70 ls []) := by
        intro x1 S H locs ls hP hS hl h
        unfold bX4_isSolved_70 at h
        obtain ⟨y8, ey8⟩ : ∃ y : Int32, y = x1 + (1 : Int32) := ⟨_, rfl⟩
        refine lv_iinc (v := y8) (lv' := [(1, .int y8), (0, .ref (o 24))]) hx hb dX4_isSolved_70 hl (k := 1) rfl (by rw [ey8]; rfl) (by decide) rfl (fun ls hl => ?_)
        have h := nm_at ey8 h
        refine lv_goto (tgt := 45) hx hb dX4_isSolved_73 (by decide) ?_
        exact ih45 y8 S _ _ _ hP hS (lv_sub hl [1, 0] rfl) h
      intro x1 S H locs ls hP hS hl h
      replace h : bX4_isSolved_45 (lX4_isSolved_45 n45) x1 S = some out := h
      unfold bX4_isSolved_45 at h
      refine lv_iload_n hx hb dX4_isSolved_45 rfl (lv_at hl 1 rfl) ?_
      refine lv_aload_n hx hb dX4_isSolved_46 rfl (lv_at hl 0 rfl) ?_
      refine va_get (D := D) (ci := 4) (v := .ref (o 0)) (C := RX4) (T := TX4) (N := 24) hx hb hts in_X4 hown hK hP.1 0 rfl rfl 0 (by decide) (hts _ q1249) (fun _ h9 => h9) rfl dX4_isSolved_47 ?_
      refine lv_iconst (v := (2 : Int32)) hx hb dX4_isSolved_50 (by decide) ?_
      refine va_iald hx hb hK hP.1 1 0 rfl rfl (inB_in (by decide)) dX4_isSolved_51 ?_
      refine lv_icmp_ge (tgt := 76) hx hb dX4_isSolved_52 (by decide) (fun c9 => ?_) (fun c9 => ?_)
      · have h := ite_t c9 h
        refine lv_aload_n hx hb dX4_isSolved_76 rfl (lv_at hl 0 rfl) ?_
        refine lv_aload_n hx hb dX4_isSolved_77 rfl (lv_at hl 0 rfl) ?_
        refine lv_iconst (v := (0 : Int32)) hx hb dX4_isSolved_78 (by decide) ?_
        refine lv_iconst (v := (0 : Int32)) hx hb dX4_isSolved_79 (by decide) ?_
        refine lv_iconst (v := (-1 : Int32)) hx hb dX4_isSolved_80 (by decide) ?_
        obtain ⟨v12, S11, e10, h⟩ := bnd_some h
        refine gc0_l (va_runV (As := [.int (0 : Int32), .int (0 : Int32), .int (-1 : Int32)]) (rest := [.ref (o 24)]) ⟨hx, hb, hml, hown, hts⟩ (mX4_det (l := l) (D := D) (cA := cA) (o := o) (A := A) DEP (0 : Int32) (0 : Int32) (-1 : Int32) S e10) (cwV 3 hts (lw_V q1516 q1518 qs60 q90 q1519) rfl rfl rfl (by decide +kernel) ⟨Nat.le_of_ble_eq_true rfl, Nat.le_of_ble_eq_true rfl⟩) (gPreV mKst hK hA hS hP (mRecv hK hP)) rfl rfl hl.1 rfl (lv_room (Nat.le_of_ble_eq_true rfl)) dX4_isSolved_81 ⟨Nat.zero_le _, Nat.zero_le _⟩) hS (fun H locs hP hS => ?_)
        refine va_put (D := D) (ci := 4) (v := .long v12) (ty := .long) (C := RX4) (T := TX4) (N := 24) hx hb hts in_X4 tyX4 tyX4_ok nmX4 hown hK hP.1 hP.2 hS 0 rfl rfl 11 (by decide) (hts _ q1260) (fun _ h9 => h9) rfl (by decide +kernel) rfl rfl (Nat.le_of_ble_eq_true rfl) dX4_isSolved_84 (fun H locs hP1 hD1 hS => ?_)
        have hP : mP D cA o A (sLF S11 v12) H := ⟨hP1, hD1⟩
        refine lv_iconst (v := (0 : Int32)) hx hb dX4_isSolved_87 (by decide) ?_
        refine lv_istore_n (lv' := [(1, .int (0 : Int32)), (0, .ref (o 24))]) hx hb dX4_isSolved_88 rfl hl (by decide) rfl (fun ls hl => ?_)
        exact L89 FU (0 : Int32) (sLF S11 v12) _ _ _ hP hS (lv_sub hl [1, 0] rfl) h
      · have h := ite_f c9 h
        refine lv_aload_n hx hb dX4_isSolved_55 rfl (lv_at hl 0 rfl) ?_
        refine lv_iload_n hx hb dX4_isSolved_56 rfl (lv_at hl 1 rfl) ?_
        refine lv_iconst (v := (5 : Int32)) hx hb dX4_isSolved_57 (by decide) ?_
        obtain ⟨v15, S14, e13, h⟩ := bnd_some h
        refine gc0_i (va_runV (As := [.int x1, .int (5 : Int32)]) (rest := []) ⟨hx, hb, hml, hown, hts⟩ (mX4_of (l := l) (D := D) (cA := cA) (o := o) (A := A) x1 (5 : Int32) S e13) (cwV 2 hts (lw_V q1355 q1357 qs33 q90 q1358) rfl rfl rfl (by decide +kernel) ⟨Nat.le_of_ble_eq_true rfl, Nat.le_of_ble_eq_true rfl⟩) (gPreV mKst hK hA hS hP (mRecv hK hP)) rfl rfl hl.1 rfl (lv_room (Nat.le_of_ble_eq_true rfl)) dX4_isSolved_58 ⟨Nat.zero_le _, Nat.zero_le _⟩) hS (fun H locs hP hS => ?_)
        refine lv_iconst (v := (1 : Int32)) hx hb dX4_isSolved_61 (by decide) ?_
        refine lv_icmp_ne (tgt := 70) hx hb dX4_isSolved_62 (by decide) (fun c16 => ?_) (fun c16 => ?_)
        · have h := ite_f c16 h
          exact B70 x1 S14 _ _ _ hP hS hl h
        · have h := ite_t c16 h
          refine lv_aload_n hx hb dX4_isSolved_65 rfl (lv_at hl 0 rfl) ?_
          refine lv_iload_n hx hb dX4_isSolved_66 rfl (lv_at hl 1 rfl) ?_
          obtain ⟨S18, e17, h⟩ := bn1_some h
          refine gc0_v (va_runV (As := [.int x1]) (rest := []) ⟨hx, hb, hml, hown, hts⟩ (mX4_adds (l := l) (D := D) (cA := cA) (o := o) (A := A) x1 S14 e17) (cwV 1 hts (lw_V q1512 q1514 qs59 q90 q1515) rfl rfl rfl (by decide +kernel) ⟨Nat.le_of_ble_eq_true rfl, Nat.le_of_ble_eq_true rfl⟩) (gPreV mKst hK hA hS hP (mRecv hK hP)) rfl rfl hl.1 rfl (lv_room (Nat.le_of_ble_eq_true rfl)) dX4_isSolved_67 ⟨Nat.zero_le _, Nat.zero_le _⟩) hS (fun H locs hP hS => ?_)
          exact B70 x1 S18 _ _ _ hP hS hl h
  have L15 : ∀ (n15 : Nat) (x1 : Int32) (S : MS) (H : Heap) (locs : List Loc) (ls : Array Slot), mP D cA o A S H → va_S A s.heap H locs → lv_has ls 2 [(0, .ref (o 24)), (1, .int x1)] → lX4_isSolved_15 n15 x1 S = some out → W p l e ({ frames := 9, cells := 0, slots := 0, locals := 279 } : Room) s m args below meth c H locs 0 0 Q (F0 m 15 ls []) := by
    intro n15
    induction n15 with
    | zero =>
      intro x1 S H locs ls hP hS hl h
      cases h
    | succ n15 ih15 =>
      intro x1 S H locs ls hP hS hl h
      replace h : bX4_isSolved_15 (lX4_isSolved_15 n15) x1 S = some out := h
      unfold bX4_isSolved_15 at h
      refine lv_iload_n hx hb dX4_isSolved_15 rfl (lv_at hl 1 rfl) ?_
      refine lv_bipush (v := (16 : Int32)) hx hb dX4_isSolved_16 (by decide) ?_
      refine lv_icmp_ge (tgt := 43) hx hb dX4_isSolved_18 (by decide) (fun c19 => ?_) (fun c19 => ?_)
      · have h := ite_t c19 h
        refine lv_iconst (v := (0 : Int32)) hx hb dX4_isSolved_43 (by decide) ?_
        refine lv_istore_n (lv' := [(1, .int (0 : Int32)), (0, .ref (o 24))]) hx hb dX4_isSolved_44 rfl hl (by decide) rfl (fun ls hl => ?_)
        exact L45 FU (0 : Int32) S _ _ _ hP hS (lv_sub hl [1, 0] rfl) h
      · have h := ite_f c19 h
        refine lv_aload_n hx hb dX4_isSolved_21 rfl (lv_at hl 0 rfl) ?_
        refine va_get (D := D) (ci := 4) (v := .ref (o 8)) (C := RX4) (T := TX4) (N := 24) hx hb hts in_X4 hown hK hP.1 0 rfl rfl 8 (by decide) (hts _ q1257) (fun _ h9 => h9) rfl dX4_isSolved_22 ?_
        refine lv_iload_n hx hb dX4_isSolved_25 rfl (lv_at hl 1 rfl) ?_
        refine lv_lconst (v := (0 : Int64)) hx hb dX4_isSolved_26 (by decide) ?_
        obtain ⟨g20, h⟩ := chk_some h
        refine va_last hx hb hK hP.1 hP.2 hS 8 3 rfl rfl (inB_in g20) dX4_isSolved_27 (fun H locs hP1 hD1 hS => ?_)
        obtain ⟨S21, eS21⟩ : ∃ y : MS, y = (sLA S 8 (vp_updL (mLA S 8) (x1).toNatClampNeg (0 : Int64))) := ⟨_, rfl⟩
        have hP : mP D cA o A S21 H := by rw [eS21]; exact ⟨hP1, hD1⟩
        have h := nm_at eS21 h
        refine lv_aload_n hx hb dX4_isSolved_28 rfl (lv_at hl 0 rfl) ?_
        refine va_get (D := D) (ci := 4) (v := .ref (o 9)) (C := RX4) (T := TX4) (N := 24) hx hb hts in_X4 hown hK hP.1 0 rfl rfl 9 (by decide) (hts _ q1258) (fun _ h9 => h9) rfl dX4_isSolved_29 ?_
        refine lv_iload_n hx hb dX4_isSolved_32 rfl (lv_at hl 1 rfl) ?_
        refine lv_iconst (v := (4 : Int32)) hx hb dX4_isSolved_33 (by decide) ?_
        refine lv_idiv hx hb dX4_isSolved_34 (by decide) ?_
        refine lv_lconst (v := (0 : Int64)) hx hb dX4_isSolved_35 (by decide) ?_
        obtain ⟨g22, h⟩ := chk_some h
        refine va_last hx hb hK hP.1 hP.2 hS 9 3 rfl rfl (inB_in g22) dX4_isSolved_36 (fun H locs hP1 hD1 hS => ?_)
        obtain ⟨S23, eS23⟩ : ∃ y : MS, y = (sLA S21 9 (vp_updL (mLA S21 9) ((x1 / (4 : Int32))).toNatClampNeg (0 : Int64))) := ⟨_, rfl⟩
        have hP : mP D cA o A S23 H := by rw [eS23]; exact ⟨hP1, hD1⟩
        have h := nm_at eS23 h
        obtain ⟨y24, ey24⟩ : ∃ y : Int32, y = x1 + (1 : Int32) := ⟨_, rfl⟩
        refine lv_iinc (v := y24) (lv' := [(1, .int y24), (0, .ref (o 24))]) hx hb dX4_isSolved_37 hl (k := 1) rfl (by rw [ey24]; rfl) (by decide) rfl (fun ls hl => ?_)
        have h := nm_at ey24 h
        refine lv_goto (tgt := 15) hx hb dX4_isSolved_40 (by decide) ?_
        exact ih15 y24 S23 _ _ _ hP hS (lv_sub hl [1, 0] rfl) h
  unfold fX4_isSolved at h
  refine lv_aload_n hx hb dX4_isSolved_0 rfl (lv_at hl 0 rfl) ?_
  refine lv_aload_n hx hb dX4_isSolved_1 rfl (lv_at hl 0 rfl) ?_
  obtain ⟨v27, S26, e25, h⟩ := bnd_some h
  refine gc0_i (va_runV (As := []) (rest := [.ref (o 24)]) ⟨hx, hb, hml, hown, hts⟩ (mX4_onOnes (l := l) (D := D) (cA := cA) (o := o) (A := A)  S e25) (cwV 0 hts (lw_V q1500 q1502 qs56 q90 q1503) rfl rfl rfl (by decide +kernel) ⟨Nat.le_of_ble_eq_true rfl, Nat.le_of_ble_eq_true rfl⟩) (gPreV mKst hK hA hS hP (mRecv hK hP)) rfl rfl hl.1 rfl (lv_room (Nat.le_of_ble_eq_true rfl)) dX4_isSolved_2 ⟨Nat.zero_le _, Nat.zero_le _⟩) hS (fun H locs hP hS => ?_)
  obtain ⟨v30, S29, e28, h⟩ := bnd_some h
  refine gc0_i (va_runV (As := [.int v27]) (rest := []) ⟨hx, hb, hml, hown, hts⟩ (mX4_doesHold (l := l) (D := D) (cA := cA) (o := o) (A := A) v27 S26 e28) (cwV 1 hts (lw_V q1504 q1506 qs57 q90 q1507) rfl rfl rfl (by decide +kernel) ⟨Nat.le_of_ble_eq_true rfl, Nat.le_of_ble_eq_true rfl⟩) (gPreV mKst hK hA hS hP (mRecv hK hP)) rfl rfl hl.1 rfl (lv_room (Nat.le_of_ble_eq_true rfl)) dX4_isSolved_5 ⟨Nat.zero_le _, Nat.zero_le _⟩) hS (fun H locs hP hS => ?_)
  refine lv_if_ne (tgt := 13) hx hb dX4_isSolved_8 (by decide) (fun c31 => ?_) (fun c31 => ?_)
  · have h := ite_f c31 h
    refine lv_iconst (v := (0 : Int32)) hx hb dX4_isSolved_13 (by decide) ?_
    refine lv_istore_n (lv' := [(1, .int (0 : Int32)), (0, .ref (o 24))]) hx hb dX4_isSolved_14 rfl hl (by decide) rfl (fun ls hl => ?_)
    exact L15 FU (0 : Int32) S29 _ _ _ hP hS (lv_sub hl [1, 0] rfl) h
  · have h := ite_t c31 h
    refine lv_iconst (v := (0 : Int32)) hx hb dX4_isSolved_11 (by decide) ?_
    exact ret _ _ _ _ _ _ dX4_isSolved_12 rfl hP hS h

def bX4_doubt_24 (t0 : Int64) (t1 : Int64) (S : MS) : Option (Int64 × MS) :=
some ((t0 * t1), S)
def fX4_doubt (x1 : Int32) (S : MS) : Option (Int64 × MS) :=
bnd (fX4_missOf x1 S) fun v3 S2 =>
bnd (fX4_weight x1 S2) fun v6 S5 =>
(if 0 ≤ (lg_cmp v3 (0 : Int64)) then
bX4_doubt_24 ((v6).toInt64) v3 S5
else
bX4_doubt_24 ((v6).toInt64) (-v3) S5)
set_option maxHeartbeats 4000000 in
set_option maxRecDepth 100000 in
theorem mX4_doubt {l : Launch} {D : va_G} {cA : Nat → ClassId} {o : Nat → Nat} {A : Nat → Prop} (x1 : Int32) (S : MS) {out : (Int64 × MS)} (h : fX4_doubt x1 S = some out) : Met l yX4_doubt (ws_ yX4_doubt cX4_doubt 4 (some .long)) ({ frames := 5, cells := 0, slots := 0, locals := 116 } : Room) (gPc (mK D cA) (mP D cA o A) A [.ref (o 24), .int x1] S) (gQl (mK D cA) (mP D cA o A) A out) 0 0 A := by
  refine gMet_l (by decide) (Nat.le_of_ble_eq_true rfl) ?_ mKst
  intro p e s m below meth c Q ls args H locs hC hP hS hl ret
  obtain ⟨hx, hb, hml, hown, hts, hA, hK⟩ := hC
  have hown : s.vm.findClass RX4 = some m.cls := hown
  have hl : lv_has ls 4 [(0, .ref (o 24)), (1, .int x1)] := hl
  have B24 : ∀ (t0 : Int64) (t1 : Int64) (S : MS) (H : Heap) (locs : List Loc) (ls : Array Slot), mP D cA o A S H → va_S A s.heap H locs → lv_has ls 4 [(0, .ref (o 24))] → bX4_doubt_24  t0 t1 S = some out → W p l e ({ frames := 5, cells := 0, slots := 0, locals := 116 } : Room) s m args below meth c H locs 0 0 Q (F0 m 24 ls [.long t1, .long t0]) := by
    intro t0 t1 S H locs ls hP hS hl h
    unfold bX4_doubt_24 at h
    refine lv_lmul hx hb dX4_doubt_24 ?_
    exact ret _ _ _ _ _ _ dX4_doubt_25 hP hS h
  unfold fX4_doubt at h
  refine lv_aload_n hx hb dX4_doubt_0 rfl (lv_at hl 0 rfl) ?_
  refine lv_iload_n hx hb dX4_doubt_1 rfl (lv_at hl 1 rfl) ?_
  obtain ⟨v3, S2, e1, h⟩ := bnd_some h
  refine gc0_l (va_runV (As := [.int x1]) (rest := []) ⟨hx, hb, hml, hown, hts⟩ (mX4_missOf (l := l) (D := D) (cA := cA) (o := o) (A := A) x1 S e1) (cwV 1 hts (lw_V q1528 q1530 qs63 q90 q1531) rfl rfl rfl (by decide +kernel) ⟨Nat.le_of_ble_eq_true rfl, Nat.le_of_ble_eq_true rfl⟩) (gPreV mKst hK hA hS hP (mRecv hK hP)) rfl rfl hl.1 rfl (lv_room (Nat.le_of_ble_eq_true rfl)) dX4_doubt_2 ⟨Nat.zero_le _, Nat.zero_le _⟩) hS (fun H locs hP hS => ?_)
  refine lv_lstore_n (lv' := [(2, .long v3), (0, .ref (o 24)), (1, .int x1)]) hx hb dX4_doubt_5 rfl hl (by decide) rfl (fun ls hl => ?_)
  refine lv_aload_n hx hb dX4_doubt_6 rfl (lv_at hl 1 rfl) ?_
  refine lv_iload_n hx hb dX4_doubt_7 rfl (lv_at hl 2 rfl) ?_
  obtain ⟨v6, S5, e4, h⟩ := bnd_some h
  refine gc0_i (va_runV (As := [.int x1]) (rest := []) ⟨hx, hb, hml, hown, hts⟩ (mX4_weight (l := l) (D := D) (cA := cA) (o := o) (A := A) x1 S2 e4) (cwV 1 hts (lw_V q1359 q1361 qs34 q90 q1362) rfl rfl rfl (by decide +kernel) ⟨Nat.le_of_ble_eq_true rfl, Nat.le_of_ble_eq_true rfl⟩) (gPreV mKst hK hA hS hP (mRecv hK hP)) rfl rfl hl.1 rfl (lv_room (Nat.le_of_ble_eq_true rfl)) dX4_doubt_8 ⟨Nat.zero_le _, Nat.zero_le _⟩) hS (fun H locs hP hS => ?_)
  refine lv_i2l hx hb dX4_doubt_11 rfl ?_
  refine lv_lload_n hx hb dX4_doubt_12 rfl (lv_at hl 0 rfl) ?_
  refine lv_lconst (v := (0 : Int64)) hx hb dX4_doubt_13 (by decide) ?_
  refine W.lcmp hx hb dX4_doubt_14 ?_
  refine lv_if_ge (tgt := 23) hx hb dX4_doubt_15 (by decide) (fun c7 => ?_) (fun c7 => ?_)
  · have h := ite_t c7 h
    refine lv_lload_n hx hb dX4_doubt_23 rfl (lv_at hl 0 rfl) ?_
    exact B24 ((v6).toInt64) v3 S5 _ _ _ hP hS (lv_sub hl [1] rfl) h
  · have h := ite_f c7 h
    refine lv_lload_n hx hb dX4_doubt_18 rfl (lv_at hl 0 rfl) ?_
    refine lv_lneg hx hb dX4_doubt_19 ?_
    refine lv_goto (tgt := 24) hx hb dX4_doubt_20 (by decide) ?_
    exact B24 ((v6).toInt64) (-v3) S5 _ _ _ hP hS (lv_sub hl [1] rfl) h

def bX4_mostDoubted_47 (k4 : Int32 → Int32 → MS → Option (Int32 × MS)) (x2 : Int32) (t0 : Int32) (S : MS) : Option (Int32 × MS) :=
nm (x2 + (1 : Int32)) fun y1 =>
k4 t0 y1 S
def bX4_mostDoubted_46 (k4 : Int32 → Int32 → MS → Option (Int32 × MS)) (x1 : Int32) (x2 : Int32) (S : MS) : Option (Int32 × MS) :=
bX4_mostDoubted_47 k4 x2 x1 S
def bX4_mostDoubted_42 (k4 : Int32 → Int32 → MS → Option (Int32 × MS)) (x2 : Int32) (S : MS) : Option (Int32 × MS) :=
bX4_mostDoubted_47 k4 x2 x2 S
def bX4_mostDoubted_4 (k4 : Int32 → Int32 → MS → Option (Int32 × MS)) (x1 : Int32) (x2 : Int32) (S : MS) : Option (Int32 × MS) :=
(if (mIA S 0 ((2 : Int32)).toNatClampNeg) ≤ x2 then
some (x1, S)
else
bnd (fX4_of x2 (5 : Int32) S) fun v5 S4 =>
(if v5 = (1 : Int32) then
(if x1 < 0 then
bX4_mostDoubted_42 k4 x2 S4
else
bnd (fX4_doubt x2 S4) fun v10 S9 =>
bnd (fX4_doubt x1 S9) fun v13 S12 =>
(if (lg_cmp v10 v13) ≤ 0 then
bX4_mostDoubted_46 k4 x1 x2 S12
else
bX4_mostDoubted_42 k4 x2 S12))
else
bX4_mostDoubted_46 k4 x1 x2 S4))
def lX4_mostDoubted_4 : Nat → (Int32 → Int32 → MS → Option (Int32 × MS))
  | 0 => fun _ _ _ => none
  | n + 1 => bX4_mostDoubted_4 (lX4_mostDoubted_4 n)
def fX4_mostDoubted (S : MS) : Option (Int32 × MS) :=
lX4_mostDoubted_4 FU (-1 : Int32) (0 : Int32) S
set_option maxHeartbeats 4000000 in
set_option maxRecDepth 100000 in
theorem mX4_mostDoubted {l : Launch} {D : va_G} {cA : Nat → ClassId} {o : Nat → Nat} {A : Nat → Prop} (S : MS) {out : (Int32 × MS)} (h : fX4_mostDoubted  S = some out) : Met l yX4_mostDoubted (ws_ yX4_mostDoubted cX4_mostDoubted 3 (some .int)) ({ frames := 6, cells := 0, slots := 0, locals := 139 } : Room) (gPc (mK D cA) (mP D cA o A) A [.ref (o 24)] S) (gQi (mK D cA) (mP D cA o A) A out) 0 0 A := by
  refine gMet_z (by decide) (Nat.le_of_ble_eq_true rfl) ?_ mKst
  intro p e s m below meth c Q ls args H locs hC hP hS hl ret
  obtain ⟨hx, hb, hml, hown, hts, hA, hK⟩ := hC
  have hown : s.vm.findClass RX4 = some m.cls := hown
  have hl : lv_has ls 3 [(0, .ref (o 24))] := hl
  have L4 : ∀ (n4 : Nat) (x1 : Int32) (x2 : Int32) (S : MS) (H : Heap) (locs : List Loc) (ls : Array Slot), mP D cA o A S H → va_S A s.heap H locs → lv_has ls 3 [(0, .ref (o 24)), (1, .int x1), (2, .int x2)] → lX4_mostDoubted_4 n4 x1 x2 S = some out → W p l e ({ frames := 6, cells := 0, slots := 0, locals := 139 } : Room) s m args below meth c H locs 0 0 Q (F0 m 4 ls []) := by
    intro n4
    induction n4 with
    | zero =>
      intro x1 x2 S H locs ls hP hS hl h
      cases h
    | succ n4 ih4 =>
      have B47 : ∀ (x2 : Int32) (t0 : Int32) (S : MS) (H : Heap) (locs : List Loc) (ls : Array Slot), mP D cA o A S H → va_S A s.heap H locs → lv_has ls 3 [(0, .ref (o 24)), (2, .int x2)] → bX4_mostDoubted_47 (lX4_mostDoubted_4 n4) x2 t0 S = some out → W p l e ({ frames := 6, cells := 0, slots := 0, locals := 139 } : Room) s m args below meth c H locs 0 0 Q (F0 m 47 ls [.int t0]) := by
        intro x2 t0 S H locs ls hP hS hl h
        unfold bX4_mostDoubted_47 at h
        refine lv_istore_n (lv' := [(1, .int t0), (0, .ref (o 24)), (2, .int x2)]) hx hb dX4_mostDoubted_47 rfl hl (by decide) rfl (fun ls hl => ?_)
        obtain ⟨y1, ey1⟩ : ∃ y : Int32, y = x2 + (1 : Int32) := ⟨_, rfl⟩
        refine lv_iinc (v := y1) (lv' := [(2, .int y1), (1, .int t0), (0, .ref (o 24))]) hx hb dX4_mostDoubted_48 hl (k := 2) rfl (by rw [ey1]; rfl) (by decide) rfl (fun ls hl => ?_)
        have h := nm_at ey1 h
        refine lv_goto (tgt := 4) hx hb dX4_mostDoubted_51 (by decide) ?_
        exact ih4 t0 y1 S _ _ _ hP hS (lv_sub hl [2, 1, 0] rfl) h
      have B46 : ∀ (x1 : Int32) (x2 : Int32) (S : MS) (H : Heap) (locs : List Loc) (ls : Array Slot), mP D cA o A S H → va_S A s.heap H locs → lv_has ls 3 [(0, .ref (o 24)), (1, .int x1), (2, .int x2)] → bX4_mostDoubted_46 (lX4_mostDoubted_4 n4) x1 x2 S = some out → W p l e ({ frames := 6, cells := 0, slots := 0, locals := 139 } : Room) s m args below meth c H locs 0 0 Q (F0 m 46 ls []) := by
        intro x1 x2 S H locs ls hP hS hl h
        unfold bX4_mostDoubted_46 at h
        refine lv_iload_n hx hb dX4_mostDoubted_46 rfl (lv_at hl 1 rfl) ?_
        exact B47 x2 x1 S _ _ _ hP hS (lv_sub hl [0, 2] rfl) h
      have B42 : ∀ (x2 : Int32) (S : MS) (H : Heap) (locs : List Loc) (ls : Array Slot), mP D cA o A S H → va_S A s.heap H locs → lv_has ls 3 [(0, .ref (o 24)), (2, .int x2)] → bX4_mostDoubted_42 (lX4_mostDoubted_4 n4) x2 S = some out → W p l e ({ frames := 6, cells := 0, slots := 0, locals := 139 } : Room) s m args below meth c H locs 0 0 Q (F0 m 42 ls []) := by
        intro x2 S H locs ls hP hS hl h
        unfold bX4_mostDoubted_42 at h
        refine lv_iload_n hx hb dX4_mostDoubted_42 rfl (lv_at hl 1 rfl) ?_
        refine lv_goto (tgt := 47) hx hb dX4_mostDoubted_43 (by decide) ?_
        exact B47 x2 x2 S _ _ _ hP hS hl h
      intro x1 x2 S H locs ls hP hS hl h
      replace h : bX4_mostDoubted_4 (lX4_mostDoubted_4 n4) x1 x2 S = some out := h
      unfold bX4_mostDoubted_4 at h
      refine lv_iload_n hx hb dX4_mostDoubted_4 rfl (lv_at hl 2 rfl) ?_
      refine lv_aload_n hx hb dX4_mostDoubted_5 rfl (lv_at hl 0 rfl) ?_
      refine va_get (D := D) (ci := 4) (v := .ref (o 0)) (C := RX4) (T := TX4) (N := 24) hx hb hts in_X4 hown hK hP.1 0 rfl rfl 0 (by decide) (hts _ q1249) (fun _ h9 => h9) rfl dX4_mostDoubted_6 ?_
      refine lv_iconst (v := (2 : Int32)) hx hb dX4_mostDoubted_9 (by decide) ?_
      refine va_iald hx hb hK hP.1 1 0 rfl rfl (inB_in (by decide)) dX4_mostDoubted_10 ?_
      refine lv_icmp_ge (tgt := 54) hx hb dX4_mostDoubted_11 (by decide) (fun c2 => ?_) (fun c2 => ?_)
      · have h := ite_t c2 h
        refine lv_iload_n hx hb dX4_mostDoubted_54 rfl (lv_at hl 1 rfl) ?_
        exact ret _ _ _ _ _ _ dX4_mostDoubted_55 rfl hP hS h
      · have h := ite_f c2 h
        refine lv_aload_n hx hb dX4_mostDoubted_14 rfl (lv_at hl 0 rfl) ?_
        refine lv_iload_n hx hb dX4_mostDoubted_15 rfl (lv_at hl 2 rfl) ?_
        refine lv_iconst (v := (5 : Int32)) hx hb dX4_mostDoubted_16 (by decide) ?_
        obtain ⟨v5, S4, e3, h⟩ := bnd_some h
        refine gc0_i (va_runV (As := [.int x2, .int (5 : Int32)]) (rest := []) ⟨hx, hb, hml, hown, hts⟩ (mX4_of (l := l) (D := D) (cA := cA) (o := o) (A := A) x2 (5 : Int32) S e3) (cwV 2 hts (lw_V q1355 q1357 qs33 q90 q1358) rfl rfl rfl (by decide +kernel) ⟨Nat.le_of_ble_eq_true rfl, Nat.le_of_ble_eq_true rfl⟩) (gPreV mKst hK hA hS hP (mRecv hK hP)) rfl rfl hl.1 rfl (lv_room (Nat.le_of_ble_eq_true rfl)) dX4_mostDoubted_17 ⟨Nat.zero_le _, Nat.zero_le _⟩) hS (fun H locs hP hS => ?_)
        refine lv_iconst (v := (1 : Int32)) hx hb dX4_mostDoubted_20 (by decide) ?_
        refine lv_icmp_ne (tgt := 46) hx hb dX4_mostDoubted_21 (by decide) (fun c6 => ?_) (fun c6 => ?_)
        · have h := ite_f c6 h
          exact B46 x1 x2 S4 _ _ _ hP hS hl h
        · have h := ite_t c6 h
          refine lv_iload_n hx hb dX4_mostDoubted_24 rfl (lv_at hl 1 rfl) ?_
          refine lv_if_lt (tgt := 42) hx hb dX4_mostDoubted_25 (by decide) (fun c7 => ?_) (fun c7 => ?_)
          · have h := ite_t c7 h
            exact B42 x2 S4 _ _ _ hP hS (lv_sub hl [0, 2] rfl) h
          · have h := ite_f c7 h
            refine lv_aload_n hx hb dX4_mostDoubted_28 rfl (lv_at hl 0 rfl) ?_
            refine lv_iload_n hx hb dX4_mostDoubted_29 rfl (lv_at hl 2 rfl) ?_
            obtain ⟨v10, S9, e8, h⟩ := bnd_some h
            refine gc0_l (va_runV (As := [.int x2]) (rest := []) ⟨hx, hb, hml, hown, hts⟩ (mX4_doubt (l := l) (D := D) (cA := cA) (o := o) (A := A) x2 S4 e8) (cwV 1 hts (lw_V q1524 q1526 qs62 q90 q1527) rfl rfl rfl (by decide +kernel) ⟨Nat.le_of_ble_eq_true rfl, Nat.le_of_ble_eq_true rfl⟩) (gPreV mKst hK hA hS hP (mRecv hK hP)) rfl rfl hl.1 rfl (lv_room (Nat.le_of_ble_eq_true rfl)) dX4_mostDoubted_30 ⟨Nat.zero_le _, Nat.zero_le _⟩) hS (fun H locs hP hS => ?_)
            refine lv_aload_n hx hb dX4_mostDoubted_33 rfl (lv_at hl 0 rfl) ?_
            refine lv_iload_n hx hb dX4_mostDoubted_34 rfl (lv_at hl 1 rfl) ?_
            obtain ⟨v13, S12, e11, h⟩ := bnd_some h
            refine gc0_l (va_runV (As := [.int x1]) (rest := [.long v10]) ⟨hx, hb, hml, hown, hts⟩ (mX4_doubt (l := l) (D := D) (cA := cA) (o := o) (A := A) x1 S9 e11) (cwV 1 hts (lw_V q1524 q1526 qs62 q90 q1527) rfl rfl rfl (by decide +kernel) ⟨Nat.le_of_ble_eq_true rfl, Nat.le_of_ble_eq_true rfl⟩) (gPreV mKst hK hA hS hP (mRecv hK hP)) rfl rfl hl.1 rfl (lv_room (Nat.le_of_ble_eq_true rfl)) dX4_mostDoubted_35 ⟨Nat.zero_le _, Nat.zero_le _⟩) hS (fun H locs hP hS => ?_)
            refine W.lcmp hx hb dX4_mostDoubted_38 ?_
            refine lv_if_le (tgt := 46) hx hb dX4_mostDoubted_39 (by decide) (fun c14 => ?_) (fun c14 => ?_)
            · have h := ite_t c14 h
              exact B46 x1 x2 S12 _ _ _ hP hS hl h
            · have h := ite_f c14 h
              exact B42 x2 S12 _ _ _ hP hS (lv_sub hl [0, 2] rfl) h
  unfold fX4_mostDoubted at h
  refine lv_iconst (v := (-1 : Int32)) hx hb dX4_mostDoubted_0 (by decide) ?_
  refine lv_istore_n (lv' := [(1, .int (-1 : Int32)), (0, .ref (o 24))]) hx hb dX4_mostDoubted_1 rfl hl (by decide) rfl (fun ls hl => ?_)
  refine lv_iconst (v := (0 : Int32)) hx hb dX4_mostDoubted_2 (by decide) ?_
  refine lv_istore_n (lv' := [(2, .int (0 : Int32)), (1, .int (-1 : Int32)), (0, .ref (o 24))]) hx hb dX4_mostDoubted_3 rfl hl (by decide) rfl (fun ls hl => ?_)
  exact L4 FU (-1 : Int32) (0 : Int32) S _ _ _ hP hS (lv_sub hl [2, 1, 0] rfl) h

def bX4_goes_61 (S : MS) : Option MS :=
nm (sIA S 0 (upd (mIA S 0) ((0 : Int32)).toNatClampNeg ((mIA S 0 ((0 : Int32)).toNatClampNeg) + (1 : Int32)))) fun S1 =>
some S1
def fX4_goes (S : MS) : Option MS :=
bnd (fX4_isSolved  S) fun v4 S3 =>
(if v4 = 0 then
bX4_goes_61 S3
else
bnd (fX4_mostDoubted  S3) fun v8 S7 =>
bnd (fX4_doubt v8 S7) fun v11 S10 =>
(if (lg_cmp v11 ((((mIA S10 0 ((4 : Int32)).toNatClampNeg)).toInt64) * (mLF S10))) ≤ 0 then
bX4_goes_61 S10
else
bn1 (fX4_puts v8 (5 : Int32) (0 : Int32) S10) fun S14 =>
bnd (fX4_held ((mIA S14 0 ((5 : Int32)).toNatClampNeg) + (1 : Int32)) (0 : Int32) (9999 : Int32) S14) fun v17 S16 =>
nm (sIA S16 0 (upd (mIA S16 0) ((5 : Int32)).toNatClampNeg v17)) fun S18 =>
bX4_goes_61 S18))
set_option maxHeartbeats 4000000 in
set_option maxRecDepth 100000 in
theorem mX4_goes {l : Launch} {D : va_G} {cA : Nat → ClassId} {o : Nat → Nat} {A : Nat → Prop} (S : MS) {out : MS} (h : fX4_goes  S = some out) : Met l yX4_goes (ws_ yX4_goes cX4_goes 2 none) ({ frames := 10, cells := 0, slots := 0, locals := 300 } : Room) (gPc (mK D cA) (mP D cA o A) A [.ref (o 24)] S) (gQv (mK D cA) (mP D cA o A) A out) 0 0 A := by
  refine gMet_v (by decide) (Nat.le_of_ble_eq_true rfl) ?_ mKst
  intro p e s m below meth c Q ls args H locs hC hP hS hl _ ret
  obtain ⟨hx, hb, hml, hown, hts, hA, hK⟩ := hC
  have hown : s.vm.findClass RX4 = some m.cls := hown
  have hl : lv_has ls 2 [(0, .ref (o 24))] := hl
  have B61 : ∀  (S : MS) (H : Heap) (locs : List Loc) (ls : Array Slot), mP D cA o A S H → va_S A s.heap H locs → lv_has ls 2 [(0, .ref (o 24))] → bX4_goes_61   S = some out → W p l e ({ frames := 10, cells := 0, slots := 0, locals := 300 } : Room) s m args below meth c H locs 0 0 Q (F0 m 61 ls []) := by
    intro  S H locs ls hP hS hl h
    unfold bX4_goes_61 at h
    refine lv_aload_n hx hb dX4_goes_61 rfl (lv_at hl 0 rfl) ?_
    refine va_get (D := D) (ci := 4) (v := .ref (o 0)) (C := RX4) (T := TX4) (N := 24) hx hb hts in_X4 hown hK hP.1 0 rfl rfl 0 (by decide) (hts _ q1249) (fun _ h9 => h9) rfl dX4_goes_62 ?_
    refine lv_iconst (v := (0 : Int32)) hx hb dX4_goes_65 (by decide) ?_
    refine lv_dup2_11 hx hb dX4_goes_66 rfl rfl ?_
    refine va_iald hx hb hK hP.1 1 0 rfl rfl (inB_in (by decide)) dX4_goes_67 ?_
    refine lv_iconst (v := (1 : Int32)) hx hb dX4_goes_68 (by decide) ?_
    refine lv_iadd hx hb dX4_goes_69 ?_
    refine va_iast hx hb hK hP.1 hP.2 hS 1 0 rfl rfl (inB_in (by decide)) dX4_goes_70 (fun H locs hP1 hD1 hS => ?_)
    obtain ⟨S1, eS1⟩ : ∃ y : MS, y = (sIA S 0 (upd (mIA S 0) ((0 : Int32)).toNatClampNeg ((mIA S 0 ((0 : Int32)).toNatClampNeg) + (1 : Int32)))) := ⟨_, rfl⟩
    have hP : mP D cA o A S1 H := by rw [eS1]; exact ⟨hP1, hD1⟩
    have h := nm_at eS1 h
    exact ret _ _ _ _ _ dX4_goes_71 hP hS h
  unfold fX4_goes at h
  refine lv_aload_n hx hb dX4_goes_0 rfl (lv_at hl 0 rfl) ?_
  obtain ⟨v4, S3, e2, h⟩ := bnd_some h
  refine gc0_i (va_runV (As := []) (rest := []) ⟨hx, hb, hml, hown, hts⟩ (mX4_isSolved (l := l) (D := D) (cA := cA) (o := o) (A := A)  S e2) (cwV 0 hts (lw_V q1496 q1498 qs55 q90 q1499) rfl rfl rfl (by decide +kernel) ⟨Nat.le_of_ble_eq_true rfl, Nat.le_of_ble_eq_true rfl⟩) (gPreV mKst hK hA hS hP (mRecv hK hP)) rfl rfl hl.1 rfl (lv_room (Nat.le_of_ble_eq_true rfl)) dX4_goes_1 ⟨Nat.zero_le _, Nat.zero_le _⟩) hS (fun H locs hP hS => ?_)
  refine lv_if_eq (tgt := 61) hx hb dX4_goes_4 (by decide) (fun c5 => ?_) (fun c5 => ?_)
  · have h := ite_t c5 h
    exact B61 S3 _ _ _ hP hS hl h
  · have h := ite_f c5 h
    refine lv_aload_n hx hb dX4_goes_7 rfl (lv_at hl 0 rfl) ?_
    obtain ⟨v8, S7, e6, h⟩ := bnd_some h
    refine gc0_i (va_runV (As := []) (rest := []) ⟨hx, hb, hml, hown, hts⟩ (mX4_mostDoubted (l := l) (D := D) (cA := cA) (o := o) (A := A)  S3 e6) (cwV 0 hts (lw_V q1520 q1522 qs61 q90 q1523) rfl rfl rfl (by decide +kernel) ⟨Nat.le_of_ble_eq_true rfl, Nat.le_of_ble_eq_true rfl⟩) (gPreV mKst hK hA hS hP (mRecv hK hP)) rfl rfl hl.1 rfl (lv_room (Nat.le_of_ble_eq_true rfl)) dX4_goes_8 ⟨Nat.zero_le _, Nat.zero_le _⟩) hS (fun H locs hP hS => ?_)
    refine lv_istore_n (lv' := [(1, .int v8), (0, .ref (o 24))]) hx hb dX4_goes_11 rfl hl (by decide) rfl (fun ls hl => ?_)
    refine lv_aload_n hx hb dX4_goes_12 rfl (lv_at hl 1 rfl) ?_
    refine lv_iload_n hx hb dX4_goes_13 rfl (lv_at hl 0 rfl) ?_
    obtain ⟨v11, S10, e9, h⟩ := bnd_some h
    refine gc0_l (va_runV (As := [.int v8]) (rest := []) ⟨hx, hb, hml, hown, hts⟩ (mX4_doubt (l := l) (D := D) (cA := cA) (o := o) (A := A) v8 S7 e9) (cwV 1 hts (lw_V q1524 q1526 qs62 q90 q1527) rfl rfl rfl (by decide +kernel) ⟨Nat.le_of_ble_eq_true rfl, Nat.le_of_ble_eq_true rfl⟩) (gPreV mKst hK hA hS hP (mRecv hK hP)) rfl rfl hl.1 rfl (lv_room (Nat.le_of_ble_eq_true rfl)) dX4_goes_14 ⟨Nat.zero_le _, Nat.zero_le _⟩) hS (fun H locs hP hS => ?_)
    refine lv_aload_n hx hb dX4_goes_17 rfl (lv_at hl 1 rfl) ?_
    refine va_get (D := D) (ci := 4) (v := .ref (o 0)) (C := RX4) (T := TX4) (N := 24) hx hb hts in_X4 hown hK hP.1 0 rfl rfl 0 (by decide) (hts _ q1249) (fun _ h9 => h9) rfl dX4_goes_18 ?_
    refine lv_iconst (v := (4 : Int32)) hx hb dX4_goes_21 (by decide) ?_
    refine va_iald hx hb hK hP.1 1 0 rfl rfl (inB_in (by decide)) dX4_goes_22 ?_
    refine lv_i2l hx hb dX4_goes_23 rfl ?_
    refine lv_aload_n hx hb dX4_goes_24 rfl (lv_at hl 1 rfl) ?_
    refine va_get (D := D) (ci := 4) (v := .long (mLF S10)) (C := RX4) (T := TX4) (N := 24) hx hb hts in_X4 hown hK hP.1 0 rfl rfl 11 (by decide) (hts _ q1260) (fun _ h9 => h9) rfl dX4_goes_25 ?_
    refine lv_lmul hx hb dX4_goes_28 ?_
    refine W.lcmp hx hb dX4_goes_29 ?_
    refine lv_if_le (tgt := 61) hx hb dX4_goes_30 (by decide) (fun c12 => ?_) (fun c12 => ?_)
    · have h := ite_t c12 h
      exact B61 S10 _ _ _ hP hS (lv_sub hl [1] rfl) h
    · have h := ite_f c12 h
      refine lv_aload_n hx hb dX4_goes_33 rfl (lv_at hl 1 rfl) ?_
      refine lv_iload_n hx hb dX4_goes_34 rfl (lv_at hl 0 rfl) ?_
      refine lv_iconst (v := (5 : Int32)) hx hb dX4_goes_35 (by decide) ?_
      refine lv_iconst (v := (0 : Int32)) hx hb dX4_goes_36 (by decide) ?_
      obtain ⟨S14, e13, h⟩ := bn1_some h
      refine gc0_v (va_runV (As := [.int v8, .int (5 : Int32), .int (0 : Int32)]) (rest := []) ⟨hx, hb, hml, hown, hts⟩ (mX4_puts (l := l) (D := D) (cA := cA) (o := o) (A := A) v8 (5 : Int32) (0 : Int32) S10 e13) (cwV 3 hts (lw_V q1343 q1345 qs31 q90 q1346) rfl rfl rfl (by decide +kernel) ⟨Nat.le_of_ble_eq_true rfl, Nat.le_of_ble_eq_true rfl⟩) (gPreV mKst hK hA hS hP (mRecv hK hP)) rfl rfl hl.1 rfl (lv_room (Nat.le_of_ble_eq_true rfl)) dX4_goes_37 ⟨Nat.zero_le _, Nat.zero_le _⟩) hS (fun H locs hP hS => ?_)
      refine lv_aload_n hx hb dX4_goes_40 rfl (lv_at hl 1 rfl) ?_
      refine va_get (D := D) (ci := 4) (v := .ref (o 0)) (C := RX4) (T := TX4) (N := 24) hx hb hts in_X4 hown hK hP.1 0 rfl rfl 0 (by decide) (hts _ q1249) (fun _ h9 => h9) rfl dX4_goes_41 ?_
      refine lv_iconst (v := (5 : Int32)) hx hb dX4_goes_44 (by decide) ?_
      refine lv_aload_n hx hb dX4_goes_45 rfl (lv_at hl 1 rfl) ?_
      refine va_get (D := D) (ci := 4) (v := .ref (o 0)) (C := RX4) (T := TX4) (N := 24) hx hb hts in_X4 hown hK hP.1 0 rfl rfl 0 (by decide) (hts _ q1249) (fun _ h9 => h9) rfl dX4_goes_46 ?_
      refine lv_iconst (v := (5 : Int32)) hx hb dX4_goes_49 (by decide) ?_
      refine va_iald hx hb hK hP.1 1 0 rfl rfl (inB_in (by decide)) dX4_goes_50 ?_
      refine lv_iconst (v := (1 : Int32)) hx hb dX4_goes_51 (by decide) ?_
      refine lv_iadd hx hb dX4_goes_52 ?_
      refine lv_iconst (v := (0 : Int32)) hx hb dX4_goes_53 (by decide) ?_
      refine lv_sipush (v := (9999 : Int32)) hx hb dX4_goes_54 (by decide) ?_
      obtain ⟨v17, S16, e15, h⟩ := bnd_some h
      refine gc0_i (va_runS (As := [.int ((mIA S14 0 ((5 : Int32)).toNatClampNeg) + (1 : Int32)), .int (0 : Int32), .int (9999 : Int32)]) (rest := [.int (5 : Int32), .ref (o 0)]) ⟨hx, hb, hml, hown, hts⟩ (mX4_held (l := l) (D := D) (cA := cA) (o := o) (A := A) ((mIA S14 0 ((5 : Int32)).toNatClampNeg) + (1 : Int32)) (0 : Int32) (9999 : Int32) S14 e15) (va_cwS 3 hts (lw_S q1382 q1383 q90 q1384) rfl rfl rfl (by decide +kernel) ⟨Nat.le_of_ble_eq_true rfl, Nat.le_of_ble_eq_true rfl⟩) (gPreS mKst hK hA hS hP) rfl rfl hl.1 rfl (lv_room (Nat.le_of_ble_eq_true rfl)) dX4_goes_57 ⟨Nat.zero_le _, Nat.zero_le _⟩) hS (fun H locs hP hS => ?_)
      refine va_iast hx hb hK hP.1 hP.2 hS 1 0 rfl rfl (inB_in (by decide)) dX4_goes_60 (fun H locs hP1 hD1 hS => ?_)
      obtain ⟨S18, eS18⟩ : ∃ y : MS, y = (sIA S16 0 (upd (mIA S16 0) ((5 : Int32)).toNatClampNeg v17)) := ⟨_, rfl⟩
      have hP : mP D cA o A S18 H := by rw [eS18]; exact ⟨hP1, hD1⟩
      have h := nm_at eS18 h
      exact B61 S18 _ _ _ hP hS (lv_sub hl [1] rfl) h

def fX4_putsBack (S : MS) : Option MS :=
bn1 (fX4_copyAll_2_0  S) fun S2 =>
some S2
set_option maxHeartbeats 4000000 in
set_option maxRecDepth 100000 in
theorem mX4_putsBack {l : Launch} {D : va_G} {cA : Nat → ClassId} {o : Nat → Nat} {A : Nat → Prop} (S : MS) {out : MS} (h : fX4_putsBack  S = some out) : Met l yX4_putsBack (ws_ yX4_putsBack cX4_putsBack 1 none) ({ frames := 1, cells := 0, slots := 0, locals := 22 } : Room) (gPc (mK D cA) (mP D cA o A) A [.ref (o 24)] S) (gQv (mK D cA) (mP D cA o A) A out) 0 0 A := by
  refine gMet_v (by decide) (Nat.le_of_ble_eq_true rfl) ?_ mKst
  intro p e s m below meth c Q ls args H locs hC hP hS hl _ ret
  obtain ⟨hx, hb, hml, hown, hts, hA, hK⟩ := hC
  have hown : s.vm.findClass RX4 = some m.cls := hown
  have hl : lv_has ls 1 [(0, .ref (o 24))] := hl
  unfold fX4_putsBack at h
  refine lv_aload_n hx hb dX4_putsBack_0 rfl (lv_at hl 0 rfl) ?_
  refine va_get (D := D) (ci := 4) (v := .ref (o 2)) (C := RX4) (T := TX4) (N := 24) hx hb hts in_X4 hown hK hP.1 0 rfl rfl 2 (by decide) (hts _ q1251) (fun _ h9 => h9) rfl dX4_putsBack_1 ?_
  refine lv_aload_n hx hb dX4_putsBack_4 rfl (lv_at hl 0 rfl) ?_
  refine va_get (D := D) (ci := 4) (v := .ref (o 0)) (C := RX4) (T := TX4) (N := 24) hx hb hts in_X4 hown hK hP.1 0 rfl rfl 0 (by decide) (hts _ q1249) (fun _ h9 => h9) rfl dX4_putsBack_5 ?_
  obtain ⟨S2, e1, h⟩ := bn1_some h
  refine gc0_v (va_runS (As := [.ref (o 2), .ref (o 0)]) (rest := []) ⟨hx, hb, hml, hown, hts⟩ (mX4_copyAll_2_0 (l := l) (D := D) (cA := cA) (o := o) (A := A)  S e1) (va_cwS 2 hts (lw_S q1602 q1603 q90 q1604) rfl rfl rfl (by decide +kernel) ⟨Nat.le_of_ble_eq_true rfl, Nat.le_of_ble_eq_true rfl⟩) (gPreS mKst hK hA hS hP) rfl rfl hl.1 rfl (lv_room (Nat.le_of_ble_eq_true rfl)) dX4_putsBack_8 ⟨Nat.zero_le _, Nat.zero_le _⟩) hS (fun H locs hP hS => ?_)
  exact ret _ _ _ _ _ dX4_putsBack_11 hP hS h

def bX4_doStay_47 (x3 : Int32) (S : MS) : Option (Int32 × MS) :=
bn1 (fX4_putsBack  S) fun S2 =>
chk (isB x3) (some (x3, S2))
def bX4_doStay_40 (k10 : Int32 → Int32 → Int32 → Int32 → MS → Option (Int32 × MS)) (x1 : Int32) (x2 : Int32) (x4 : Int32) (t0 : Int32) (S : MS) : Option (Int32 × MS) :=
nm (x4 + (1 : Int32)) fun y4 =>
k10 x1 x2 t0 y4 S
def bX4_doStay_10 (k10 : Int32 → Int32 → Int32 → Int32 → MS → Option (Int32 × MS)) (x1 : Int32) (x2 : Int32) (x3 : Int32) (x4 : Int32) (S : MS) : Option (Int32 × MS) :=
(if x1 ≤ x4 then
bX4_doStay_47 x3 S
else
(if x3 = 0 then
bX4_doStay_47 x3 S
else
bn1 (fX4_goes  S) fun S8 =>
bnd (fX4_onOnes  S8) fun v11 S10 =>
(if (x2 &&& (v11 ^^^ (-1 : Int32))) = 0 then
bX4_doStay_40 k10 x1 x2 x4 (1 : Int32) S10
else
bX4_doStay_40 k10 x1 x2 x4 (0 : Int32) S10)))
def lX4_doStay_10 : Nat → (Int32 → Int32 → Int32 → Int32 → MS → Option (Int32 × MS))
  | 0 => fun _ _ _ _ _ => none
  | n + 1 => bX4_doStay_10 (lX4_doStay_10 n)
def fX4_doStay (x1 : Int32) (S : MS) : Option (Int32 × MS) :=
bnd (fX4_onOnes  S) fun v15 S14 =>
lX4_doStay_10 FU x1 v15 (1 : Int32) (0 : Int32) S14
set_option maxHeartbeats 4000000 in
set_option maxRecDepth 100000 in
theorem mX4_doStay {l : Launch} {D : va_G} {cA : Nat → ClassId} {o : Nat → Nat} {A : Nat → Prop} (x1 : Int32) (S : MS) {out : (Int32 × MS)} (h : fX4_doStay x1 S = some out) : Met l yX4_doStay (ws_ yX4_doStay cX4_doStay 5 (some .boolean)) ({ frames := 11, cells := 0, slots := 0, locals := 321 } : Room) (gPc (mK D cA) (mP D cA o A) A [.ref (o 24), .int x1] S) (gQi (mK D cA) (mP D cA o A) A out) 0 0 A := by
  refine gMet_z (by decide) (Nat.le_of_ble_eq_true rfl) ?_ mKst
  intro p e s m below meth c Q ls args H locs hC hP hS hl ret
  obtain ⟨hx, hb, hml, hown, hts, hA, hK⟩ := hC
  have hown : s.vm.findClass RX4 = some m.cls := hown
  have hl : lv_has ls 5 [(0, .ref (o 24)), (1, .int x1)] := hl
  have B47 : ∀ (x3 : Int32) (S : MS) (H : Heap) (locs : List Loc) (ls : Array Slot), mP D cA o A S H → va_S A s.heap H locs → lv_has ls 5 [(0, .ref (o 24)), (3, .int x3)] → bX4_doStay_47  x3 S = some out → W p l e ({ frames := 11, cells := 0, slots := 0, locals := 321 } : Room) s m args below meth c H locs 0 0 Q (F0 m 47 ls []) := by
    intro x3 S H locs ls hP hS hl h
    unfold bX4_doStay_47 at h
    refine lv_aload_n hx hb dX4_doStay_47 rfl (lv_at hl 0 rfl) ?_
    obtain ⟨S2, e1, h⟩ := bn1_some h
    refine gc0_v (va_runV (As := []) (rest := []) ⟨hx, hb, hml, hown, hts⟩ (mX4_putsBack (l := l) (D := D) (cA := cA) (o := o) (A := A)  S e1) (cwV 0 hts (lw_V q1605 q1607 qs69 q90 q1608) rfl rfl rfl (by decide +kernel) ⟨Nat.le_of_ble_eq_true rfl, Nat.le_of_ble_eq_true rfl⟩) (gPreV mKst hK hA hS hP (mRecv hK hP)) rfl rfl hl.1 rfl (lv_room (Nat.le_of_ble_eq_true rfl)) dX4_doStay_48 ⟨Nat.zero_le _, Nat.zero_le _⟩) hS (fun H locs hP hS => ?_)
    refine lv_iload_n hx hb dX4_doStay_51 rfl (lv_at hl 1 rfl) ?_
    obtain ⟨g3, h⟩ := chk_some h
    exact ret _ _ _ _ _ _ dX4_doStay_52 (isB_nar g3) hP hS h
  have L10 : ∀ (n10 : Nat) (x1 : Int32) (x2 : Int32) (x3 : Int32) (x4 : Int32) (S : MS) (H : Heap) (locs : List Loc) (ls : Array Slot), mP D cA o A S H → va_S A s.heap H locs → lv_has ls 5 [(0, .ref (o 24)), (1, .int x1), (2, .int x2), (3, .int x3), (4, .int x4)] → lX4_doStay_10 n10 x1 x2 x3 x4 S = some out → W p l e ({ frames := 11, cells := 0, slots := 0, locals := 321 } : Room) s m args below meth c H locs 0 0 Q (F0 m 10 ls []) := by
    intro n10
    induction n10 with
    | zero =>
      intro x1 x2 x3 x4 S H locs ls hP hS hl h
      cases h
    | succ n10 ih10 =>
      have B40 : ∀ (x1 : Int32) (x2 : Int32) (x4 : Int32) (t0 : Int32) (S : MS) (H : Heap) (locs : List Loc) (ls : Array Slot), mP D cA o A S H → va_S A s.heap H locs → lv_has ls 5 [(0, .ref (o 24)), (1, .int x1), (2, .int x2), (4, .int x4)] → bX4_doStay_40 (lX4_doStay_10 n10) x1 x2 x4 t0 S = some out → W p l e ({ frames := 11, cells := 0, slots := 0, locals := 321 } : Room) s m args below meth c H locs 0 0 Q (F0 m 40 ls [.int t0]) := by
        intro x1 x2 x4 t0 S H locs ls hP hS hl h
        unfold bX4_doStay_40 at h
        refine lv_istore_n (lv' := [(3, .int t0), (0, .ref (o 24)), (1, .int x1), (2, .int x2), (4, .int x4)]) hx hb dX4_doStay_40 rfl hl (by decide) rfl (fun ls hl => ?_)
        obtain ⟨y4, ey4⟩ : ∃ y : Int32, y = x4 + (1 : Int32) := ⟨_, rfl⟩
        refine lv_iinc (v := y4) (lv' := [(4, .int y4), (3, .int t0), (0, .ref (o 24)), (1, .int x1), (2, .int x2)]) hx hb dX4_doStay_41 hl (k := 4) rfl (by rw [ey4]; rfl) (by decide) rfl (fun ls hl => ?_)
        have h := nm_at ey4 h
        refine lv_goto (tgt := 10) hx hb dX4_doStay_44 (by decide) ?_
        exact ih10 x1 x2 t0 y4 S _ _ _ hP hS (lv_sub hl [2, 3, 4, 1, 0] rfl) h
      intro x1 x2 x3 x4 S H locs ls hP hS hl h
      replace h : bX4_doStay_10 (lX4_doStay_10 n10) x1 x2 x3 x4 S = some out := h
      unfold bX4_doStay_10 at h
      refine lv_iload hx hb dX4_doStay_10 (lv_at hl 4 rfl) ?_
      refine lv_iload_n hx hb dX4_doStay_12 rfl (lv_at hl 1 rfl) ?_
      refine lv_icmp_ge (tgt := 47) hx hb dX4_doStay_13 (by decide) (fun c5 => ?_) (fun c5 => ?_)
      · have h := ite_t c5 h
        exact B47 x3 S _ _ _ hP hS (lv_sub hl [0, 3] rfl) h
      · have h := ite_f c5 h
        refine lv_iload_n hx hb dX4_doStay_16 rfl (lv_at hl 3 rfl) ?_
        refine lv_if_eq (tgt := 47) hx hb dX4_doStay_17 (by decide) (fun c6 => ?_) (fun c6 => ?_)
        · have h := ite_t c6 h
          exact B47 x3 S _ _ _ hP hS (lv_sub hl [0, 3] rfl) h
        · have h := ite_f c6 h
          refine lv_aload_n hx hb dX4_doStay_20 rfl (lv_at hl 0 rfl) ?_
          obtain ⟨S8, e7, h⟩ := bn1_some h
          refine gc0_v (va_runV (As := []) (rest := []) ⟨hx, hb, hml, hown, hts⟩ (mX4_goes (l := l) (D := D) (cA := cA) (o := o) (A := A)  S e7) (cwV 0 hts (lw_V q1492 q1494 qs54 q90 q1495) rfl rfl rfl (by decide +kernel) ⟨Nat.le_of_ble_eq_true rfl, Nat.le_of_ble_eq_true rfl⟩) (gPreV mKst hK hA hS hP (mRecv hK hP)) rfl rfl hl.1 rfl (lv_room (Nat.le_of_ble_eq_true rfl)) dX4_doStay_21 ⟨Nat.zero_le _, Nat.zero_le _⟩) hS (fun H locs hP hS => ?_)
          refine lv_iload_n hx hb dX4_doStay_24 rfl (lv_at hl 2 rfl) ?_
          refine lv_aload_n hx hb dX4_doStay_25 rfl (lv_at hl 0 rfl) ?_
          obtain ⟨v11, S10, e9, h⟩ := bnd_some h
          refine gc0_i (va_runV (As := []) (rest := [.int x2]) ⟨hx, hb, hml, hown, hts⟩ (mX4_onOnes (l := l) (D := D) (cA := cA) (o := o) (A := A)  S8 e9) (cwV 0 hts (lw_V q1500 q1502 qs56 q90 q1503) rfl rfl rfl (by decide +kernel) ⟨Nat.le_of_ble_eq_true rfl, Nat.le_of_ble_eq_true rfl⟩) (gPreV mKst hK hA hS hP (mRecv hK hP)) rfl rfl hl.1 rfl (lv_room (Nat.le_of_ble_eq_true rfl)) dX4_doStay_26 ⟨Nat.zero_le _, Nat.zero_le _⟩) hS (fun H locs hP hS => ?_)
          refine lv_iconst (v := (-1 : Int32)) hx hb dX4_doStay_29 (by decide) ?_
          refine lv_ixor hx hb dX4_doStay_30 ?_
          refine lv_iand hx hb dX4_doStay_31 ?_
          refine lv_if_ne (tgt := 39) hx hb dX4_doStay_32 (by decide) (fun c12 => ?_) (fun c12 => ?_)
          · have h := ite_f c12 h
            refine lv_iconst (v := (0 : Int32)) hx hb dX4_doStay_39 (by decide) ?_
            exact B40 x1 x2 x4 (0 : Int32) S10 _ _ _ hP hS (lv_sub hl [0, 1, 2, 4] rfl) h
          · have h := ite_t c12 h
            refine lv_iconst (v := (1 : Int32)) hx hb dX4_doStay_35 (by decide) ?_
            refine lv_goto (tgt := 40) hx hb dX4_doStay_36 (by decide) ?_
            exact B40 x1 x2 x4 (1 : Int32) S10 _ _ _ hP hS (lv_sub hl [0, 1, 2, 4] rfl) h
  unfold fX4_doStay at h
  refine lv_aload_n hx hb dX4_doStay_0 rfl (lv_at hl 0 rfl) ?_
  obtain ⟨v15, S14, e13, h⟩ := bnd_some h
  refine gc0_i (va_runV (As := []) (rest := []) ⟨hx, hb, hml, hown, hts⟩ (mX4_onOnes (l := l) (D := D) (cA := cA) (o := o) (A := A)  S e13) (cwV 0 hts (lw_V q1500 q1502 qs56 q90 q1503) rfl rfl rfl (by decide +kernel) ⟨Nat.le_of_ble_eq_true rfl, Nat.le_of_ble_eq_true rfl⟩) (gPreV mKst hK hA hS hP (mRecv hK hP)) rfl rfl hl.1 rfl (lv_room (Nat.le_of_ble_eq_true rfl)) dX4_doStay_1 ⟨Nat.zero_le _, Nat.zero_le _⟩) hS (fun H locs hP hS => ?_)
  refine lv_istore_n (lv' := [(2, .int v15), (0, .ref (o 24)), (1, .int x1)]) hx hb dX4_doStay_4 rfl hl (by decide) rfl (fun ls hl => ?_)
  refine lv_iconst (v := (1 : Int32)) hx hb dX4_doStay_5 (by decide) ?_
  refine lv_istore_n (lv' := [(3, .int (1 : Int32)), (2, .int v15), (0, .ref (o 24)), (1, .int x1)]) hx hb dX4_doStay_6 rfl hl (by decide) rfl (fun ls hl => ?_)
  refine lv_iconst (v := (0 : Int32)) hx hb dX4_doStay_7 (by decide) ?_
  refine lv_istore (lv' := [(4, .int (0 : Int32)), (3, .int (1 : Int32)), (2, .int v15), (0, .ref (o 24)), (1, .int x1)]) hx hb dX4_doStay_8 hl (by decide) rfl (fun ls hl => ?_)
  exact L10 FU x1 v15 (1 : Int32) (0 : Int32) S14 _ _ _ hP hS (lv_sub hl [3, 4, 2, 1, 0] rfl) h

def bX4_doubted_20 (t0 : Int32) (S : MS) : Option (Int32 × MS) :=
some (t0, S)
def fX4_doubted (S : MS) : Option (Int32 × MS) :=
bnd (fX4_isSolved  S) fun v3 S2 =>
(if v3 = 0 then
bnd (fX4_error (-1000000003 : Int32) S2) fun v7 S6 =>
bX4_doubted_20 v7 S6
else
bnd (fX4_mostDoubted  S2) fun v10 S9 =>
bX4_doubted_20 v10 S9)
set_option maxHeartbeats 4000000 in
set_option maxRecDepth 100000 in
theorem mX4_doubted {l : Launch} {D : va_G} {cA : Nat → ClassId} {o : Nat → Nat} {A : Nat → Prop} (S : MS) {out : (Int32 × MS)} (h : fX4_doubted  S = some out) : Met l yX4_doubted (ws_ yX4_doubted cX4_doubted 1 (some .int)) ({ frames := 10, cells := 0, slots := 0, locals := 300 } : Room) (gPc (mK D cA) (mP D cA o A) A [.ref (o 24)] S) (gQi (mK D cA) (mP D cA o A) A out) 0 0 A := by
  refine gMet_z (by decide) (Nat.le_of_ble_eq_true rfl) ?_ mKst
  intro p e s m below meth c Q ls args H locs hC hP hS hl ret
  obtain ⟨hx, hb, hml, hown, hts, hA, hK⟩ := hC
  have hown : s.vm.findClass RX4 = some m.cls := hown
  have hl : lv_has ls 1 [(0, .ref (o 24))] := hl
  have B20 : ∀ (t0 : Int32) (S : MS) (H : Heap) (locs : List Loc) (ls : Array Slot), mP D cA o A S H → va_S A s.heap H locs → lv_has ls 1 [(0, .ref (o 24))] → bX4_doubted_20  t0 S = some out → W p l e ({ frames := 10, cells := 0, slots := 0, locals := 300 } : Room) s m args below meth c H locs 0 0 Q (F0 m 20 ls [.int t0]) := by
    intro t0 S H locs ls hP hS hl h
    unfold bX4_doubted_20 at h
    exact ret _ _ _ _ _ _ dX4_doubted_20 rfl hP hS h
  unfold fX4_doubted at h
  refine lv_aload_n hx hb dX4_doubted_0 rfl (lv_at hl 0 rfl) ?_
  obtain ⟨v3, S2, e1, h⟩ := bnd_some h
  refine gc0_i (va_runV (As := []) (rest := []) ⟨hx, hb, hml, hown, hts⟩ (mX4_isSolved (l := l) (D := D) (cA := cA) (o := o) (A := A)  S e1) (cwV 0 hts (lw_V q1496 q1498 qs55 q90 q1499) rfl rfl rfl (by decide +kernel) ⟨Nat.le_of_ble_eq_true rfl, Nat.le_of_ble_eq_true rfl⟩) (gPreV mKst hK hA hS hP (mRecv hK hP)) rfl rfl hl.1 rfl (lv_room (Nat.le_of_ble_eq_true rfl)) dX4_doubted_1 ⟨Nat.zero_le _, Nat.zero_le _⟩) hS (fun H locs hP hS => ?_)
  refine lv_if_eq (tgt := 14) hx hb dX4_doubted_4 (by decide) (fun c4 => ?_) (fun c4 => ?_)
  · have h := ite_t c4 h
    refine lv_aload_n hx hb dX4_doubted_14 rfl (lv_at hl 0 rfl) ?_
    refine lv_ldc (v := (-1000000003 : Int32)) hx hb hown (hts _ q1418) dX4_doubted_15 ?_
    obtain ⟨v7, S6, e5, h⟩ := bnd_some h
    refine gc0_i (va_runV (As := [.int (-1000000003 : Int32)]) (rest := []) ⟨hx, hb, hml, hown, hts⟩ (mX4_error (l := l) (D := D) (cA := cA) (o := o) (A := A) (-1000000003 : Int32) S2 e5) (cwV 1 hts (lw_V q1337 q1339 qs30 q90 q1340) rfl rfl rfl (by decide +kernel) ⟨Nat.le_of_ble_eq_true rfl, Nat.le_of_ble_eq_true rfl⟩) (gPreV mKst hK hA hS hP (mRecv hK hP)) rfl rfl hl.1 rfl (lv_room (Nat.le_of_ble_eq_true rfl)) dX4_doubted_17 ⟨Nat.zero_le _, Nat.zero_le _⟩) hS (fun H locs hP hS => ?_)
    exact B20 v7 S6 _ _ _ hP hS hl h
  · have h := ite_f c4 h
    refine lv_aload_n hx hb dX4_doubted_7 rfl (lv_at hl 0 rfl) ?_
    obtain ⟨v10, S9, e8, h⟩ := bnd_some h
    refine gc0_i (va_runV (As := []) (rest := []) ⟨hx, hb, hml, hown, hts⟩ (mX4_mostDoubted (l := l) (D := D) (cA := cA) (o := o) (A := A)  S2 e8) (cwV 0 hts (lw_V q1520 q1522 qs61 q90 q1523) rfl rfl rfl (by decide +kernel) ⟨Nat.le_of_ble_eq_true rfl, Nat.le_of_ble_eq_true rfl⟩) (gPreV mKst hK hA hS hP (mRecv hK hP)) rfl rfl hl.1 rfl (lv_room (Nat.le_of_ble_eq_true rfl)) dX4_doubted_8 ⟨Nat.zero_le _, Nat.zero_le _⟩) hS (fun H locs hP hS => ?_)
    refine lv_goto (tgt := 20) hx hb dX4_doubted_11 (by decide) ?_
    exact B20 v10 S9 _ _ _ hP hS hl h

def fX4_draw (S : MS) : Option (Int32 × MS) :=
nm (sIA S 0 (upd (mIA S 0) ((1 : Int32)).toNatClampNeg (((mIA S 0 ((1 : Int32)).toNatClampNeg) * (1103515245 : Int32)) + (12345 : Int32)))) fun S1 =>
some (((((mIA S1 0 ((1 : Int32)).toNatClampNeg)).toUInt32 >>> (((8 : Int32)).toUInt32 &&& Int32.toUInt32 31)).toInt32), S1)
set_option maxHeartbeats 4000000 in
set_option maxRecDepth 100000 in
theorem mX4_draw {l : Launch} {D : va_G} {cA : Nat → ClassId} {o : Nat → Nat} {A : Nat → Prop} (S : MS) {out : (Int32 × MS)} (h : fX4_draw  S = some out) : Met l yX4_draw (ws_ yX4_draw cX4_draw 1 (some .int)) ({ frames := 0, cells := 0, slots := 0, locals := 0 } : Room) (gPc (mK D cA) (mP D cA o A) A [.ref (o 24)] S) (gQi (mK D cA) (mP D cA o A) A out) 0 0 A := by
  refine gMet_z (by decide) (Nat.le_of_ble_eq_true rfl) ?_ mKst
  intro p e s m below meth c Q ls args H locs hC hP hS hl ret
  obtain ⟨hx, hb, hml, hown, hts, hA, hK⟩ := hC
  have hown : s.vm.findClass RX4 = some m.cls := hown
  have hl : lv_has ls 1 [(0, .ref (o 24))] := hl
  unfold fX4_draw at h
  refine lv_aload_n hx hb dX4_draw_0 rfl (lv_at hl 0 rfl) ?_
  refine va_get (D := D) (ci := 4) (v := .ref (o 0)) (C := RX4) (T := TX4) (N := 24) hx hb hts in_X4 hown hK hP.1 0 rfl rfl 0 (by decide) (hts _ q1249) (fun _ h9 => h9) rfl dX4_draw_1 ?_
  refine lv_iconst (v := (1 : Int32)) hx hb dX4_draw_4 (by decide) ?_
  refine lv_aload_n hx hb dX4_draw_5 rfl (lv_at hl 0 rfl) ?_
  refine va_get (D := D) (ci := 4) (v := .ref (o 0)) (C := RX4) (T := TX4) (N := 24) hx hb hts in_X4 hown hK hP.1 0 rfl rfl 0 (by decide) (hts _ q1249) (fun _ h9 => h9) rfl dX4_draw_6 ?_
  refine lv_iconst (v := (1 : Int32)) hx hb dX4_draw_9 (by decide) ?_
  refine va_iald hx hb hK hP.1 1 0 rfl rfl (inB_in (by decide)) dX4_draw_10 ?_
  refine lv_ldc (v := (1103515245 : Int32)) hx hb hown (hts _ q1547) dX4_draw_11 ?_
  refine lv_imul hx hb dX4_draw_13 ?_
  refine lv_sipush (v := (12345 : Int32)) hx hb dX4_draw_14 (by decide) ?_
  refine lv_iadd hx hb dX4_draw_17 ?_
  refine va_iast hx hb hK hP.1 hP.2 hS 1 0 rfl rfl (inB_in (by decide)) dX4_draw_18 (fun H locs hP1 hD1 hS => ?_)
  obtain ⟨S1, eS1⟩ : ∃ y : MS, y = (sIA S 0 (upd (mIA S 0) ((1 : Int32)).toNatClampNeg (((mIA S 0 ((1 : Int32)).toNatClampNeg) * (1103515245 : Int32)) + (12345 : Int32)))) := ⟨_, rfl⟩
  have hP : mP D cA o A S1 H := by rw [eS1]; exact ⟨hP1, hD1⟩
  have h := nm_at eS1 h
  refine lv_aload_n hx hb dX4_draw_19 rfl (lv_at hl 0 rfl) ?_
  refine va_get (D := D) (ci := 4) (v := .ref (o 0)) (C := RX4) (T := TX4) (N := 24) hx hb hts in_X4 hown hK hP.1 0 rfl rfl 0 (by decide) (hts _ q1249) (fun _ h9 => h9) rfl dX4_draw_20 ?_
  refine lv_iconst (v := (1 : Int32)) hx hb dX4_draw_23 (by decide) ?_
  refine va_iald hx hb hK hP.1 1 0 rfl rfl (inB_in (by decide)) dX4_draw_24 ?_
  refine lv_bipush (v := (8 : Int32)) hx hb dX4_draw_25 (by decide) ?_
  refine lv_iushr hx hb dX4_draw_27 rfl ?_
  exact ret _ _ _ _ _ _ dX4_draw_28 rfl hP hS h

def bX4_drawn_44 (S : MS) : Option MS :=
bn1 (fX4_goes  S) fun S2 =>
some S2
def fX4_drawn (S : MS) : Option MS :=
(if (mIA S 0 ((2 : Int32)).toNatClampNeg) ≤ 0 then
bX4_drawn_44 S
else
bnd (fX4_draw  S) fun v6 S5 =>
chk (ne0 (mIA S5 0 ((2 : Int32)).toNatClampNeg)) (nm (v6 - v6 / (mIA S5 0 ((2 : Int32)).toNatClampNeg) * (mIA S5 0 ((2 : Int32)).toNatClampNeg)) fun y8 =>
bnd (fX4_draw  S5) fun v11 S10 =>
bn1 (fX4_puts y8 (4 : Int32) ((v11 - v11 / (41 : Int32) * (41 : Int32)) - (20 : Int32)) S10) fun S13 =>
bn1 (fX4_puts y8 (5 : Int32) (1 : Int32) S13) fun S15 =>
bX4_drawn_44 S15))
set_option maxHeartbeats 4000000 in
set_option maxRecDepth 100000 in
theorem mX4_drawn {l : Launch} {D : va_G} {cA : Nat → ClassId} {o : Nat → Nat} {A : Nat → Prop} (S : MS) {out : MS} (h : fX4_drawn  S = some out) : Met l yX4_drawn (ws_ yX4_drawn cX4_drawn 2 none) ({ frames := 11, cells := 0, slots := 0, locals := 321 } : Room) (gPc (mK D cA) (mP D cA o A) A [.ref (o 24)] S) (gQv (mK D cA) (mP D cA o A) A out) 0 0 A := by
  refine gMet_v (by decide) (Nat.le_of_ble_eq_true rfl) ?_ mKst
  intro p e s m below meth c Q ls args H locs hC hP hS hl _ ret
  obtain ⟨hx, hb, hml, hown, hts, hA, hK⟩ := hC
  have hown : s.vm.findClass RX4 = some m.cls := hown
  have hl : lv_has ls 2 [(0, .ref (o 24))] := hl
  have B44 : ∀  (S : MS) (H : Heap) (locs : List Loc) (ls : Array Slot), mP D cA o A S H → va_S A s.heap H locs → lv_has ls 2 [(0, .ref (o 24))] → bX4_drawn_44   S = some out → W p l e ({ frames := 11, cells := 0, slots := 0, locals := 321 } : Room) s m args below meth c H locs 0 0 Q (F0 m 44 ls []) := by
    intro  S H locs ls hP hS hl h
    unfold bX4_drawn_44 at h
    refine lv_aload_n hx hb dX4_drawn_44 rfl (lv_at hl 0 rfl) ?_
    obtain ⟨S2, e1, h⟩ := bn1_some h
    refine gc0_v (va_runV (As := []) (rest := []) ⟨hx, hb, hml, hown, hts⟩ (mX4_goes (l := l) (D := D) (cA := cA) (o := o) (A := A)  S e1) (cwV 0 hts (lw_V q1492 q1494 qs54 q90 q1495) rfl rfl rfl (by decide +kernel) ⟨Nat.le_of_ble_eq_true rfl, Nat.le_of_ble_eq_true rfl⟩) (gPreV mKst hK hA hS hP (mRecv hK hP)) rfl rfl hl.1 rfl (lv_room (Nat.le_of_ble_eq_true rfl)) dX4_drawn_45 ⟨Nat.zero_le _, Nat.zero_le _⟩) hS (fun H locs hP hS => ?_)
    exact ret _ _ _ _ _ dX4_drawn_48 hP hS h
  unfold fX4_drawn at h
  refine lv_aload_n hx hb dX4_drawn_0 rfl (lv_at hl 0 rfl) ?_
  refine va_get (D := D) (ci := 4) (v := .ref (o 0)) (C := RX4) (T := TX4) (N := 24) hx hb hts in_X4 hown hK hP.1 0 rfl rfl 0 (by decide) (hts _ q1249) (fun _ h9 => h9) rfl dX4_drawn_1 ?_
  refine lv_iconst (v := (2 : Int32)) hx hb dX4_drawn_4 (by decide) ?_
  refine va_iald hx hb hK hP.1 1 0 rfl rfl (inB_in (by decide)) dX4_drawn_5 ?_
  refine lv_if_le (tgt := 44) hx hb dX4_drawn_6 (by decide) (fun c3 => ?_) (fun c3 => ?_)
  · have h := ite_t c3 h
    exact B44 S _ _ _ hP hS hl h
  · have h := ite_f c3 h
    refine lv_aload_n hx hb dX4_drawn_9 rfl (lv_at hl 0 rfl) ?_
    obtain ⟨v6, S5, e4, h⟩ := bnd_some h
    refine gc0_i (va_runV (As := []) (rest := []) ⟨hx, hb, hml, hown, hts⟩ (mX4_draw (l := l) (D := D) (cA := cA) (o := o) (A := A)  S e4) (cwV 0 hts (lw_V q1543 q1545 qs65 q90 q1546) rfl rfl rfl (by decide +kernel) ⟨Nat.le_of_ble_eq_true rfl, Nat.le_of_ble_eq_true rfl⟩) (gPreV mKst hK hA hS hP (mRecv hK hP)) rfl rfl hl.1 rfl (lv_room (Nat.le_of_ble_eq_true rfl)) dX4_drawn_10 ⟨Nat.zero_le _, Nat.zero_le _⟩) hS (fun H locs hP hS => ?_)
    refine lv_aload_n hx hb dX4_drawn_13 rfl (lv_at hl 0 rfl) ?_
    refine va_get (D := D) (ci := 4) (v := .ref (o 0)) (C := RX4) (T := TX4) (N := 24) hx hb hts in_X4 hown hK hP.1 0 rfl rfl 0 (by decide) (hts _ q1249) (fun _ h9 => h9) rfl dX4_drawn_14 ?_
    refine lv_iconst (v := (2 : Int32)) hx hb dX4_drawn_17 (by decide) ?_
    refine va_iald hx hb hK hP.1 1 0 rfl rfl (inB_in (by decide)) dX4_drawn_18 ?_
    obtain ⟨g7, h⟩ := chk_some h
    refine lv_irem hx hb dX4_drawn_19 (ne0_n g7) ?_
    refine lv_topi (fun y8 ey8 => ?_)
    have h := nm_at ey8 h
    refine lv_istore_n (lv' := [(1, .int y8), (0, .ref (o 24))]) hx hb dX4_drawn_20 rfl hl (by decide) rfl (fun ls hl => ?_)
    refine lv_aload_n hx hb dX4_drawn_21 rfl (lv_at hl 1 rfl) ?_
    refine lv_iload_n hx hb dX4_drawn_22 rfl (lv_at hl 0 rfl) ?_
    refine lv_iconst (v := (4 : Int32)) hx hb dX4_drawn_23 (by decide) ?_
    refine lv_aload_n hx hb dX4_drawn_24 rfl (lv_at hl 1 rfl) ?_
    obtain ⟨v11, S10, e9, h⟩ := bnd_some h
    refine gc0_i (va_runV (As := []) (rest := [.int (4 : Int32), .int y8, .ref (o 24)]) ⟨hx, hb, hml, hown, hts⟩ (mX4_draw (l := l) (D := D) (cA := cA) (o := o) (A := A)  S5 e9) (cwV 0 hts (lw_V q1543 q1545 qs65 q90 q1546) rfl rfl rfl (by decide +kernel) ⟨Nat.le_of_ble_eq_true rfl, Nat.le_of_ble_eq_true rfl⟩) (gPreV mKst hK hA hS hP (mRecv hK hP)) rfl rfl hl.1 rfl (lv_room (Nat.le_of_ble_eq_true rfl)) dX4_drawn_25 ⟨Nat.zero_le _, Nat.zero_le _⟩) hS (fun H locs hP hS => ?_)
    refine lv_bipush (v := (41 : Int32)) hx hb dX4_drawn_28 (by decide) ?_
    refine lv_irem hx hb dX4_drawn_30 (by decide) ?_
    refine lv_bipush (v := (20 : Int32)) hx hb dX4_drawn_31 (by decide) ?_
    refine lv_isub hx hb dX4_drawn_33 ?_
    obtain ⟨S13, e12, h⟩ := bn1_some h
    refine gc0_v (va_runV (As := [.int y8, .int (4 : Int32), .int ((v11 - v11 / (41 : Int32) * (41 : Int32)) - (20 : Int32))]) (rest := []) ⟨hx, hb, hml, hown, hts⟩ (mX4_puts (l := l) (D := D) (cA := cA) (o := o) (A := A) y8 (4 : Int32) ((v11 - v11 / (41 : Int32) * (41 : Int32)) - (20 : Int32)) S10 e12) (cwV 3 hts (lw_V q1343 q1345 qs31 q90 q1346) rfl rfl rfl (by decide +kernel) ⟨Nat.le_of_ble_eq_true rfl, Nat.le_of_ble_eq_true rfl⟩) (gPreV mKst hK hA hS hP (mRecv hK hP)) rfl rfl hl.1 rfl (lv_room (Nat.le_of_ble_eq_true rfl)) dX4_drawn_34 ⟨Nat.zero_le _, Nat.zero_le _⟩) hS (fun H locs hP hS => ?_)
    refine lv_aload_n hx hb dX4_drawn_37 rfl (lv_at hl 1 rfl) ?_
    refine lv_iload_n hx hb dX4_drawn_38 rfl (lv_at hl 0 rfl) ?_
    refine lv_iconst (v := (5 : Int32)) hx hb dX4_drawn_39 (by decide) ?_
    refine lv_iconst (v := (1 : Int32)) hx hb dX4_drawn_40 (by decide) ?_
    obtain ⟨S15, e14, h⟩ := bn1_some h
    refine gc0_v (va_runV (As := [.int y8, .int (5 : Int32), .int (1 : Int32)]) (rest := []) ⟨hx, hb, hml, hown, hts⟩ (mX4_puts (l := l) (D := D) (cA := cA) (o := o) (A := A) y8 (5 : Int32) (1 : Int32) S13 e14) (cwV 3 hts (lw_V q1343 q1345 qs31 q90 q1346) rfl rfl rfl (by decide +kernel) ⟨Nat.le_of_ble_eq_true rfl, Nat.le_of_ble_eq_true rfl⟩) (gPreV mKst hK hA hS hP (mRecv hK hP)) rfl rfl hl.1 rfl (lv_room (Nat.le_of_ble_eq_true rfl)) dX4_drawn_41 ⟨Nat.zero_le _, Nat.zero_le _⟩) hS (fun H locs hP hS => ?_)
    exact B44 S15 _ _ _ hP hS (lv_sub hl [1] rfl) h

def bX4_feed_41 (k41 : Int64 → Int32 → Int32 → MS → Option (Int32 × MS)) (x1 : Int64) (x3 : Int32) (x4 : Int32) (S : MS) : Option (Int32 × MS) :=
(if x3 ≤ x4 then
some ((mIA S 0 ((6 : Int32)).toNatClampNeg), S)
else
chk (inB ((56 : Int32) + (mIA S 0 ((6 : Int32)).toNatClampNeg)) 382) (nm (sIA S 0 (upd (mIA S 0) (((56 : Int32) + (mIA S 0 ((6 : Int32)).toNatClampNeg))).toNatClampNeg ((((x1 >>> ((((8 : Int32) * x4)).toInt64 &&& 63)) &&& (255 : Int64))).toInt32))) fun S3 =>
nm (sIA S3 0 (upd (mIA S3 0) ((6 : Int32)).toNatClampNeg ((mIA S3 0 ((6 : Int32)).toNatClampNeg) + (1 : Int32)))) fun S4 =>
nm (x4 + (1 : Int32)) fun y5 =>
k41 x1 x3 y5 S4))
def lX4_feed_41 : Nat → (Int64 → Int32 → Int32 → MS → Option (Int32 × MS))
  | 0 => fun _ _ _ _ => none
  | n + 1 => bX4_feed_41 (lX4_feed_41 n)
def fX4_feed (x1 : Int64) (x3 : Int32) (S : MS) : Option (Int32 × MS) :=
bnd (fX4_in x3 (1 : Int32) (8 : Int32) S) fun v8 S7 =>
(if v8 = 0 then
bnd (fX4_error (-1000000001 : Int32) S7) fun v16 S15 =>
some (v16, S15)
else
(if ((mIA S7 0 ((6 : Int32)).toNatClampNeg) + x3) ≤ (60 : Int32) then
lX4_feed_41 FU x1 x3 (0 : Int32) S7
else
bnd (fX4_error (-1000000004 : Int32) S7) fun v13 S12 =>
some (v13, S12)))
set_option maxHeartbeats 4000000 in
set_option maxRecDepth 100000 in
theorem mX4_feed {l : Launch} {D : va_G} {cA : Nat → ClassId} {o : Nat → Nat} {A : Nat → Prop} (x1 : Int64) (x3 : Int32) (S : MS) {out : (Int32 × MS)} (h : fX4_feed x1 x3 S = some out) : Met l yX4_feed (ws_ yX4_feed cX4_feed 5 (some .int)) ({ frames := 1, cells := 0, slots := 0, locals := 22 } : Room) (gPc (mK D cA) (mP D cA o A) A [.ref (o 24), .long x1, .int x3] S) (gQi (mK D cA) (mP D cA o A) A out) 0 0 A := by
  refine gMet_z (by decide) (Nat.le_of_ble_eq_true rfl) ?_ mKst
  intro p e s m below meth c Q ls args H locs hC hP hS hl ret
  obtain ⟨hx, hb, hml, hown, hts, hA, hK⟩ := hC
  have hown : s.vm.findClass RX4 = some m.cls := hown
  have hl : lv_has ls 5 [(0, .ref (o 24)), (1, .long x1), (3, .int x3)] := hl
  have L41 : ∀ (n41 : Nat) (x1 : Int64) (x3 : Int32) (x4 : Int32) (S : MS) (H : Heap) (locs : List Loc) (ls : Array Slot), mP D cA o A S H → va_S A s.heap H locs → lv_has ls 5 [(0, .ref (o 24)), (1, .long x1), (3, .int x3), (4, .int x4)] → lX4_feed_41 n41 x1 x3 x4 S = some out → W p l e ({ frames := 1, cells := 0, slots := 0, locals := 22 } : Room) s m args below meth c H locs 0 0 Q (F0 m 41 ls []) := by
    intro n41
    induction n41 with
    | zero =>
      intro x1 x3 x4 S H locs ls hP hS hl h
      cases h
    | succ n41 ih41 =>
      intro x1 x3 x4 S H locs ls hP hS hl h
      replace h : bX4_feed_41 (lX4_feed_41 n41) x1 x3 x4 S = some out := h
      unfold bX4_feed_41 at h
      refine lv_iload hx hb dX4_feed_41 (lv_at hl 3 rfl) ?_
      refine lv_iload_n hx hb dX4_feed_43 rfl (lv_at hl 2 rfl) ?_
      refine lv_icmp_ge (tgt := 91) hx hb dX4_feed_44 (by decide) (fun c1 => ?_) (fun c1 => ?_)
      · have h := ite_t c1 h
        refine lv_aload_n hx hb dX4_feed_91 rfl (lv_at hl 0 rfl) ?_
        refine va_get (D := D) (ci := 4) (v := .ref (o 0)) (C := RX4) (T := TX4) (N := 24) hx hb hts in_X4 hown hK hP.1 0 rfl rfl 0 (by decide) (hts _ q1249) (fun _ h9 => h9) rfl dX4_feed_92 ?_
        refine lv_bipush (v := (6 : Int32)) hx hb dX4_feed_95 (by decide) ?_
        refine va_iald hx hb hK hP.1 1 0 rfl rfl (inB_in (by decide)) dX4_feed_97 ?_
        exact ret _ _ _ _ _ _ dX4_feed_98 rfl hP hS h
      · have h := ite_f c1 h
        refine lv_aload_n hx hb dX4_feed_47 rfl (lv_at hl 0 rfl) ?_
        refine va_get (D := D) (ci := 4) (v := .ref (o 0)) (C := RX4) (T := TX4) (N := 24) hx hb hts in_X4 hown hK hP.1 0 rfl rfl 0 (by decide) (hts _ q1249) (fun _ h9 => h9) rfl dX4_feed_48 ?_
        refine lv_bipush (v := (56 : Int32)) hx hb dX4_feed_51 (by decide) ?_
        refine lv_aload_n hx hb dX4_feed_53 rfl (lv_at hl 0 rfl) ?_
        refine va_get (D := D) (ci := 4) (v := .ref (o 0)) (C := RX4) (T := TX4) (N := 24) hx hb hts in_X4 hown hK hP.1 0 rfl rfl 0 (by decide) (hts _ q1249) (fun _ h9 => h9) rfl dX4_feed_54 ?_
        refine lv_bipush (v := (6 : Int32)) hx hb dX4_feed_57 (by decide) ?_
        refine va_iald hx hb hK hP.1 1 0 rfl rfl (inB_in (by decide)) dX4_feed_59 ?_
        refine lv_iadd hx hb dX4_feed_60 ?_
        refine lv_lload_n hx hb dX4_feed_61 rfl (lv_at hl 1 rfl) ?_
        refine lv_bipush (v := (8 : Int32)) hx hb dX4_feed_62 (by decide) ?_
        refine lv_iload hx hb dX4_feed_64 (lv_at hl 3 rfl) ?_
        refine lv_imul hx hb dX4_feed_66 ?_
        refine lv_lshr hx hb dX4_feed_67 rfl ?_
        refine lv_ldc2 (v := (255 : Int64)) hx hb hown (hts _ q1427) dX4_feed_68 ?_
        refine lv_land hx hb dX4_feed_71 ?_
        refine lv_l2i hx hb dX4_feed_72 rfl ?_
        obtain ⟨g2, h⟩ := chk_some h
        refine va_iast hx hb hK hP.1 hP.2 hS 1 0 rfl rfl (inB_in g2) dX4_feed_73 (fun H locs hP1 hD1 hS => ?_)
        obtain ⟨S3, eS3⟩ : ∃ y : MS, y = (sIA S 0 (upd (mIA S 0) (((56 : Int32) + (mIA S 0 ((6 : Int32)).toNatClampNeg))).toNatClampNeg ((((x1 >>> ((((8 : Int32) * x4)).toInt64 &&& 63)) &&& (255 : Int64))).toInt32))) := ⟨_, rfl⟩
        have hP : mP D cA o A S3 H := by rw [eS3]; exact ⟨hP1, hD1⟩
        have h := nm_at eS3 h
        refine lv_aload_n hx hb dX4_feed_74 rfl (lv_at hl 0 rfl) ?_
        refine va_get (D := D) (ci := 4) (v := .ref (o 0)) (C := RX4) (T := TX4) (N := 24) hx hb hts in_X4 hown hK hP.1 0 rfl rfl 0 (by decide) (hts _ q1249) (fun _ h9 => h9) rfl dX4_feed_75 ?_
        refine lv_bipush (v := (6 : Int32)) hx hb dX4_feed_78 (by decide) ?_
        refine lv_dup2_11 hx hb dX4_feed_80 rfl rfl ?_
        refine va_iald hx hb hK hP.1 1 0 rfl rfl (inB_in (by decide)) dX4_feed_81 ?_
        refine lv_iconst (v := (1 : Int32)) hx hb dX4_feed_82 (by decide) ?_
        refine lv_iadd hx hb dX4_feed_83 ?_
        refine va_iast hx hb hK hP.1 hP.2 hS 1 0 rfl rfl (inB_in (by decide)) dX4_feed_84 (fun H locs hP1 hD1 hS => ?_)
        obtain ⟨S4, eS4⟩ : ∃ y : MS, y = (sIA S3 0 (upd (mIA S3 0) ((6 : Int32)).toNatClampNeg ((mIA S3 0 ((6 : Int32)).toNatClampNeg) + (1 : Int32)))) := ⟨_, rfl⟩
        have hP : mP D cA o A S4 H := by rw [eS4]; exact ⟨hP1, hD1⟩
        have h := nm_at eS4 h
        obtain ⟨y5, ey5⟩ : ∃ y : Int32, y = x4 + (1 : Int32) := ⟨_, rfl⟩
        refine lv_iinc (v := y5) (lv' := [(4, .int y5), (0, .ref (o 24)), (1, .long x1), (3, .int x3)]) hx hb dX4_feed_85 hl (k := 3) rfl (by rw [ey5]; rfl) (by decide) rfl (fun ls hl => ?_)
        have h := nm_at ey5 h
        refine lv_goto (tgt := 41) hx hb dX4_feed_88 (by decide) ?_
        exact ih41 x1 x3 y5 S4 _ _ _ hP hS (lv_sub hl [1, 2, 3, 0] rfl) h
  unfold fX4_feed at h
  refine lv_iload_n hx hb dX4_feed_0 rfl (lv_at hl 2 rfl) ?_
  refine lv_iconst (v := (1 : Int32)) hx hb dX4_feed_1 (by decide) ?_
  refine lv_bipush (v := (8 : Int32)) hx hb dX4_feed_2 (by decide) ?_
  obtain ⟨v8, S7, e6, h⟩ := bnd_some h
  refine gc0_i (va_runS (As := [.int x3, .int (1 : Int32), .int (8 : Int32)]) (rest := []) ⟨hx, hb, hml, hown, hts⟩ (mX4_in (l := l) (D := D) (cA := cA) (o := o) (A := A) x3 (1 : Int32) (8 : Int32) S e6) (va_cwS 3 hts (lw_S q1329 q1330 q90 q1331) rfl rfl rfl (by decide +kernel) ⟨Nat.le_of_ble_eq_true rfl, Nat.le_of_ble_eq_true rfl⟩) (gPreS mKst hK hA hS hP) rfl rfl hl.1 rfl (lv_room (Nat.le_of_ble_eq_true rfl)) dX4_feed_4 ⟨Nat.zero_le _, Nat.zero_le _⟩) hS (fun H locs hP hS => ?_)
  refine lv_if_ne (tgt := 17) hx hb dX4_feed_7 (by decide) (fun c9 => ?_) (fun c9 => ?_)
  · have h := ite_f c9 h
    refine lv_aload_n hx hb dX4_feed_17 rfl (lv_at hl 0 rfl) ?_
    refine va_get (D := D) (ci := 4) (v := .ref (o 0)) (C := RX4) (T := TX4) (N := 24) hx hb hts in_X4 hown hK hP.1 0 rfl rfl 0 (by decide) (hts _ q1249) (fun _ h9 => h9) rfl dX4_feed_18 ?_
    refine lv_bipush (v := (6 : Int32)) hx hb dX4_feed_21 (by decide) ?_
    refine va_iald hx hb hK hP.1 1 0 rfl rfl (inB_in (by decide)) dX4_feed_23 ?_
    refine lv_iload_n hx hb dX4_feed_24 rfl (lv_at hl 2 rfl) ?_
    refine lv_iadd hx hb dX4_feed_25 ?_
    refine lv_bipush (v := (60 : Int32)) hx hb dX4_feed_26 (by decide) ?_
    refine lv_icmp_le (tgt := 38) hx hb dX4_feed_28 (by decide) (fun c10 => ?_) (fun c10 => ?_)
    · have h := ite_t c10 h
      refine lv_iconst (v := (0 : Int32)) hx hb dX4_feed_38 (by decide) ?_
      refine lv_istore (lv' := [(4, .int (0 : Int32)), (0, .ref (o 24)), (1, .long x1), (3, .int x3)]) hx hb dX4_feed_39 hl (by decide) rfl (fun ls hl => ?_)
      exact L41 FU x1 x3 (0 : Int32) S7 _ _ _ hP hS (lv_sub hl [1, 2, 3, 0] rfl) h
    · have h := ite_f c10 h
      refine lv_aload_n hx hb dX4_feed_31 rfl (lv_at hl 0 rfl) ?_
      refine lv_ldc (v := (-1000000004 : Int32)) hx hb hown (hts _ q1342) dX4_feed_32 ?_
      obtain ⟨v13, S12, e11, h⟩ := bnd_some h
      refine gc0_i (va_runV (As := [.int (-1000000004 : Int32)]) (rest := []) ⟨hx, hb, hml, hown, hts⟩ (mX4_error (l := l) (D := D) (cA := cA) (o := o) (A := A) (-1000000004 : Int32) S7 e11) (cwV 1 hts (lw_V q1337 q1339 qs30 q90 q1340) rfl rfl rfl (by decide +kernel) ⟨Nat.le_of_ble_eq_true rfl, Nat.le_of_ble_eq_true rfl⟩) (gPreV mKst hK hA hS hP (mRecv hK hP)) rfl rfl hl.1 rfl (lv_room (Nat.le_of_ble_eq_true rfl)) dX4_feed_34 ⟨Nat.zero_le _, Nat.zero_le _⟩) hS (fun H locs hP hS => ?_)
      exact ret _ _ _ _ _ _ dX4_feed_37 rfl hP hS h
  · have h := ite_t c9 h
    refine lv_aload_n hx hb dX4_feed_10 rfl (lv_at hl 0 rfl) ?_
    refine lv_ldc (v := (-1000000001 : Int32)) hx hb hown (hts _ q1336) dX4_feed_11 ?_
    obtain ⟨v16, S15, e14, h⟩ := bnd_some h
    refine gc0_i (va_runV (As := [.int (-1000000001 : Int32)]) (rest := []) ⟨hx, hb, hml, hown, hts⟩ (mX4_error (l := l) (D := D) (cA := cA) (o := o) (A := A) (-1000000001 : Int32) S7 e14) (cwV 1 hts (lw_V q1337 q1339 qs30 q90 q1340) rfl rfl rfl (by decide +kernel) ⟨Nat.le_of_ble_eq_true rfl, Nat.le_of_ble_eq_true rfl⟩) (gPreV mKst hK hA hS hP (mRecv hK hP)) rfl rfl hl.1 rfl (lv_room (Nat.le_of_ble_eq_true rfl)) dX4_feed_13 ⟨Nat.zero_le _, Nat.zero_le _⟩) hS (fun H locs hP hS => ?_)
    exact ret _ _ _ _ _ _ dX4_feed_16 rfl hP hS h

def fX4_isSheet (x0 : Int32) (S : MS) : Option (Int32 × MS) :=
bnd (fX4_in x0 (0 : Int32) (3 : Int32) S) fun v3 S2 =>
chk (isB v3) (some (v3, S2))
set_option maxHeartbeats 4000000 in
set_option maxRecDepth 100000 in
theorem mX4_isSheet {l : Launch} {D : va_G} {cA : Nat → ClassId} {o : Nat → Nat} {A : Nat → Prop} (x0 : Int32) (S : MS) {out : (Int32 × MS)} (h : fX4_isSheet x0 S = some out) : Met l yX4_isSheet (ws_ yX4_isSheet cX4_isSheet 1 (some .boolean)) ({ frames := 1, cells := 0, slots := 0, locals := 22 } : Room) (gPc (mK D cA) (mP D cA o A) A [.int x0] S) (gQi (mK D cA) (mP D cA o A) A out) 0 0 A := by
  refine gMet_z (by decide) (Nat.le_of_ble_eq_true rfl) ?_ mKst
  intro p e s m below meth c Q ls args H locs hC hP hS hl ret
  obtain ⟨hx, hb, hml, hown, hts, hA, hK⟩ := hC
  have hown : s.vm.findClass RX4 = some m.cls := hown
  have hl : lv_has ls 1 [(0, .int x0)] := hl
  unfold fX4_isSheet at h
  refine lv_iload_n hx hb dX4_isSheet_0 rfl (lv_at hl 0 rfl) ?_
  refine lv_iconst (v := (0 : Int32)) hx hb dX4_isSheet_1 (by decide) ?_
  refine lv_iconst (v := (3 : Int32)) hx hb dX4_isSheet_2 (by decide) ?_
  obtain ⟨v3, S2, e1, h⟩ := bnd_some h
  refine gc0_i (va_runS (As := [.int x0, .int (0 : Int32), .int (3 : Int32)]) (rest := []) ⟨hx, hb, hml, hown, hts⟩ (mX4_in (l := l) (D := D) (cA := cA) (o := o) (A := A) x0 (0 : Int32) (3 : Int32) S e1) (va_cwS 3 hts (lw_S q1329 q1330 q90 q1331) rfl rfl rfl (by decide +kernel) ⟨Nat.le_of_ble_eq_true rfl, Nat.le_of_ble_eq_true rfl⟩) (gPreS mKst hK hA hS hP) rfl rfl hl.1 rfl (lv_room (Nat.le_of_ble_eq_true rfl)) dX4_isSheet_3 ⟨Nat.zero_le _, Nat.zero_le _⟩) hS (fun H locs hP hS => ?_)
  obtain ⟨g4, h⟩ := chk_some h
  exact ret _ _ _ _ _ _ dX4_isSheet_6 (isB_nar g4) hP hS h

def fX4_thinks (S : MS) : Option MS :=
bn1 (fX4_copyAll_0_2  S) fun S2 =>
some S2
set_option maxHeartbeats 4000000 in
set_option maxRecDepth 100000 in
theorem mX4_thinks {l : Launch} {D : va_G} {cA : Nat → ClassId} {o : Nat → Nat} {A : Nat → Prop} (S : MS) {out : MS} (h : fX4_thinks  S = some out) : Met l yX4_thinks (ws_ yX4_thinks cX4_thinks 1 none) ({ frames := 1, cells := 0, slots := 0, locals := 22 } : Room) (gPc (mK D cA) (mP D cA o A) A [.ref (o 24)] S) (gQv (mK D cA) (mP D cA o A) A out) 0 0 A := by
  refine gMet_v (by decide) (Nat.le_of_ble_eq_true rfl) ?_ mKst
  intro p e s m below meth c Q ls args H locs hC hP hS hl _ ret
  obtain ⟨hx, hb, hml, hown, hts, hA, hK⟩ := hC
  have hown : s.vm.findClass RX4 = some m.cls := hown
  have hl : lv_has ls 1 [(0, .ref (o 24))] := hl
  unfold fX4_thinks at h
  refine lv_aload_n hx hb dX4_thinks_0 rfl (lv_at hl 0 rfl) ?_
  refine va_get (D := D) (ci := 4) (v := .ref (o 0)) (C := RX4) (T := TX4) (N := 24) hx hb hts in_X4 hown hK hP.1 0 rfl rfl 0 (by decide) (hts _ q1249) (fun _ h9 => h9) rfl dX4_thinks_1 ?_
  refine lv_aload_n hx hb dX4_thinks_4 rfl (lv_at hl 0 rfl) ?_
  refine va_get (D := D) (ci := 4) (v := .ref (o 2)) (C := RX4) (T := TX4) (N := 24) hx hb hts in_X4 hown hK hP.1 0 rfl rfl 2 (by decide) (hts _ q1251) (fun _ h9 => h9) rfl dX4_thinks_5 ?_
  obtain ⟨S2, e1, h⟩ := bn1_some h
  refine gc0_v (va_runS (As := [.ref (o 0), .ref (o 2)]) (rest := []) ⟨hx, hb, hml, hown, hts⟩ (mX4_copyAll_0_2 (l := l) (D := D) (cA := cA) (o := o) (A := A)  S e1) (va_cwS 2 hts (lw_S q1602 q1603 q90 q1604) rfl rfl rfl (by decide +kernel) ⟨Nat.le_of_ble_eq_true rfl, Nat.le_of_ble_eq_true rfl⟩) (gPreS mKst hK hA hS hP) rfl rfl hl.1 rfl (lv_room (Nat.le_of_ble_eq_true rfl)) dX4_thinks_8 ⟨Nat.zero_le _, Nat.zero_le _⟩) hS (fun H locs hP hS => ?_)
  exact ret _ _ _ _ _ dX4_thinks_11 hP hS h

def bX4_isSo_52 (x2 : Int32) (S : MS) : Option (Int32 × MS) :=
bn1 (fX4_putsBack  S) fun S2 =>
chk (isB x2) (some (x2, S2))
def bX4_isSo_41 (k4 : Int32 → Int32 → Int32 → MS → Option (Int32 × MS)) (x1 : Int32) (x3 : Int32) (t0 : Int32) (S : MS) : Option (Int32 × MS) :=
bn1 (fX4_goes  S) fun S5 =>
nm (x3 + (1 : Int32)) fun y6 =>
k4 x1 t0 y6 S5
def bX4_isSo_4 (k4 : Int32 → Int32 → Int32 → MS → Option (Int32 × MS)) (x1 : Int32) (x2 : Int32) (x3 : Int32) (S : MS) : Option (Int32 × MS) :=
chk (inB x1 4) ((if (mIA S 6 (x1).toNatClampNeg) ≤ x3 then
bX4_isSo_52 x2 S
else
(if x2 = 0 then
bX4_isSo_52 x2 S
else
chk (inB (((24 : Int32) * x1) + x3) 96) (bnd (fX4_onOnes  S) fun v13 S12 =>
(if (mIA S 7 ((((24 : Int32) * x1) + x3)).toNatClampNeg) = v13 then
bX4_isSo_41 k4 x1 x3 (1 : Int32) S12
else
bX4_isSo_41 k4 x1 x3 (0 : Int32) S12)))))
def lX4_isSo_4 : Nat → (Int32 → Int32 → Int32 → MS → Option (Int32 × MS))
  | 0 => fun _ _ _ _ => none
  | n + 1 => bX4_isSo_4 (lX4_isSo_4 n)
def fX4_isSo (x1 : Int32) (S : MS) : Option (Int32 × MS) :=
lX4_isSo_4 FU x1 (1 : Int32) (0 : Int32) S
set_option maxHeartbeats 4000000 in
set_option maxRecDepth 100000 in
theorem mX4_isSo {l : Launch} {D : va_G} {cA : Nat → ClassId} {o : Nat → Nat} {A : Nat → Prop} (x1 : Int32) (S : MS) {out : (Int32 × MS)} (h : fX4_isSo x1 S = some out) : Met l yX4_isSo (ws_ yX4_isSo cX4_isSo 4 (some .boolean)) ({ frames := 11, cells := 0, slots := 0, locals := 321 } : Room) (gPc (mK D cA) (mP D cA o A) A [.ref (o 24), .int x1] S) (gQi (mK D cA) (mP D cA o A) A out) 0 0 A := by
  refine gMet_z (by decide) (Nat.le_of_ble_eq_true rfl) ?_ mKst
  intro p e s m below meth c Q ls args H locs hC hP hS hl ret
  obtain ⟨hx, hb, hml, hown, hts, hA, hK⟩ := hC
  have hown : s.vm.findClass RX4 = some m.cls := hown
  have hl : lv_has ls 4 [(0, .ref (o 24)), (1, .int x1)] := hl
  have B52 : ∀ (x2 : Int32) (S : MS) (H : Heap) (locs : List Loc) (ls : Array Slot), mP D cA o A S H → va_S A s.heap H locs → lv_has ls 4 [(0, .ref (o 24)), (2, .int x2)] → bX4_isSo_52  x2 S = some out → W p l e ({ frames := 11, cells := 0, slots := 0, locals := 321 } : Room) s m args below meth c H locs 0 0 Q (F0 m 52 ls []) := by
    intro x2 S H locs ls hP hS hl h
    unfold bX4_isSo_52 at h
    refine lv_aload_n hx hb dX4_isSo_52 rfl (lv_at hl 0 rfl) ?_
    obtain ⟨S2, e1, h⟩ := bn1_some h
    refine gc0_v (va_runV (As := []) (rest := []) ⟨hx, hb, hml, hown, hts⟩ (mX4_putsBack (l := l) (D := D) (cA := cA) (o := o) (A := A)  S e1) (cwV 0 hts (lw_V q1605 q1607 qs69 q90 q1608) rfl rfl rfl (by decide +kernel) ⟨Nat.le_of_ble_eq_true rfl, Nat.le_of_ble_eq_true rfl⟩) (gPreV mKst hK hA hS hP (mRecv hK hP)) rfl rfl hl.1 rfl (lv_room (Nat.le_of_ble_eq_true rfl)) dX4_isSo_53 ⟨Nat.zero_le _, Nat.zero_le _⟩) hS (fun H locs hP hS => ?_)
    refine lv_iload_n hx hb dX4_isSo_56 rfl (lv_at hl 1 rfl) ?_
    obtain ⟨g3, h⟩ := chk_some h
    exact ret _ _ _ _ _ _ dX4_isSo_57 (isB_nar g3) hP hS h
  have L4 : ∀ (n4 : Nat) (x1 : Int32) (x2 : Int32) (x3 : Int32) (S : MS) (H : Heap) (locs : List Loc) (ls : Array Slot), mP D cA o A S H → va_S A s.heap H locs → lv_has ls 4 [(0, .ref (o 24)), (1, .int x1), (2, .int x2), (3, .int x3)] → lX4_isSo_4 n4 x1 x2 x3 S = some out → W p l e ({ frames := 11, cells := 0, slots := 0, locals := 321 } : Room) s m args below meth c H locs 0 0 Q (F0 m 4 ls []) := by
    intro n4
    induction n4 with
    | zero =>
      intro x1 x2 x3 S H locs ls hP hS hl h
      cases h
    | succ n4 ih4 =>
      have B41 : ∀ (x1 : Int32) (x3 : Int32) (t0 : Int32) (S : MS) (H : Heap) (locs : List Loc) (ls : Array Slot), mP D cA o A S H → va_S A s.heap H locs → lv_has ls 4 [(0, .ref (o 24)), (1, .int x1), (3, .int x3)] → bX4_isSo_41 (lX4_isSo_4 n4) x1 x3 t0 S = some out → W p l e ({ frames := 11, cells := 0, slots := 0, locals := 321 } : Room) s m args below meth c H locs 0 0 Q (F0 m 41 ls [.int t0]) := by
        intro x1 x3 t0 S H locs ls hP hS hl h
        unfold bX4_isSo_41 at h
        refine lv_istore_n (lv' := [(2, .int t0), (0, .ref (o 24)), (1, .int x1), (3, .int x3)]) hx hb dX4_isSo_41 rfl hl (by decide) rfl (fun ls hl => ?_)
        refine lv_aload_n hx hb dX4_isSo_42 rfl (lv_at hl 1 rfl) ?_
        obtain ⟨S5, e4, h⟩ := bn1_some h
        refine gc0_v (va_runV (As := []) (rest := []) ⟨hx, hb, hml, hown, hts⟩ (mX4_goes (l := l) (D := D) (cA := cA) (o := o) (A := A)  S e4) (cwV 0 hts (lw_V q1492 q1494 qs54 q90 q1495) rfl rfl rfl (by decide +kernel) ⟨Nat.le_of_ble_eq_true rfl, Nat.le_of_ble_eq_true rfl⟩) (gPreV mKst hK hA hS hP (mRecv hK hP)) rfl rfl hl.1 rfl (lv_room (Nat.le_of_ble_eq_true rfl)) dX4_isSo_43 ⟨Nat.zero_le _, Nat.zero_le _⟩) hS (fun H locs hP hS => ?_)
        obtain ⟨y6, ey6⟩ : ∃ y : Int32, y = x3 + (1 : Int32) := ⟨_, rfl⟩
        refine lv_iinc (v := y6) (lv' := [(3, .int y6), (2, .int t0), (0, .ref (o 24)), (1, .int x1)]) hx hb dX4_isSo_46 hl (k := 3) rfl (by rw [ey6]; rfl) (by decide) rfl (fun ls hl => ?_)
        have h := nm_at ey6 h
        refine lv_goto (tgt := 4) hx hb dX4_isSo_49 (by decide) ?_
        exact ih4 x1 t0 y6 S5 _ _ _ hP hS (lv_sub hl [2, 3, 1, 0] rfl) h
      intro x1 x2 x3 S H locs ls hP hS hl h
      replace h : bX4_isSo_4 (lX4_isSo_4 n4) x1 x2 x3 S = some out := h
      unfold bX4_isSo_4 at h
      refine lv_iload_n hx hb dX4_isSo_4 rfl (lv_at hl 3 rfl) ?_
      refine lv_aload_n hx hb dX4_isSo_5 rfl (lv_at hl 0 rfl) ?_
      refine va_get (D := D) (ci := 4) (v := .ref (o 6)) (C := RX4) (T := TX4) (N := 24) hx hb hts in_X4 hown hK hP.1 0 rfl rfl 6 (by decide) (hts _ q1255) (fun _ h9 => h9) rfl dX4_isSo_6 ?_
      refine lv_iload_n hx hb dX4_isSo_9 rfl (lv_at hl 1 rfl) ?_
      obtain ⟨g7, h⟩ := chk_some h
      refine va_iald hx hb hK hP.1 6 0 rfl rfl (inB_in g7) dX4_isSo_10 ?_
      refine lv_icmp_ge (tgt := 52) hx hb dX4_isSo_11 (by decide) (fun c8 => ?_) (fun c8 => ?_)
      · have h := ite_t c8 h
        exact B52 x2 S _ _ _ hP hS (lv_sub hl [0, 2] rfl) h
      · have h := ite_f c8 h
        refine lv_iload_n hx hb dX4_isSo_14 rfl (lv_at hl 2 rfl) ?_
        refine lv_if_eq (tgt := 52) hx hb dX4_isSo_15 (by decide) (fun c9 => ?_) (fun c9 => ?_)
        · have h := ite_t c9 h
          exact B52 x2 S _ _ _ hP hS (lv_sub hl [0, 2] rfl) h
        · have h := ite_f c9 h
          refine lv_aload_n hx hb dX4_isSo_18 rfl (lv_at hl 0 rfl) ?_
          refine va_get (D := D) (ci := 4) (v := .ref (o 7)) (C := RX4) (T := TX4) (N := 24) hx hb hts in_X4 hown hK hP.1 0 rfl rfl 7 (by decide) (hts _ q1256) (fun _ h9 => h9) rfl dX4_isSo_19 ?_
          refine lv_bipush (v := (24 : Int32)) hx hb dX4_isSo_22 (by decide) ?_
          refine lv_iload_n hx hb dX4_isSo_24 rfl (lv_at hl 1 rfl) ?_
          refine lv_imul hx hb dX4_isSo_25 ?_
          refine lv_iload_n hx hb dX4_isSo_26 rfl (lv_at hl 3 rfl) ?_
          refine lv_iadd hx hb dX4_isSo_27 ?_
          obtain ⟨g10, h⟩ := chk_some h
          refine va_iald hx hb hK hP.1 7 0 rfl rfl (inB_in g10) dX4_isSo_28 ?_
          refine lv_aload_n hx hb dX4_isSo_29 rfl (lv_at hl 0 rfl) ?_
          obtain ⟨v13, S12, e11, h⟩ := bnd_some h
          refine gc0_i (va_runV (As := []) (rest := [.int (mIA S 7 ((((24 : Int32) * x1) + x3)).toNatClampNeg)]) ⟨hx, hb, hml, hown, hts⟩ (mX4_onOnes (l := l) (D := D) (cA := cA) (o := o) (A := A)  S e11) (cwV 0 hts (lw_V q1500 q1502 qs56 q90 q1503) rfl rfl rfl (by decide +kernel) ⟨Nat.le_of_ble_eq_true rfl, Nat.le_of_ble_eq_true rfl⟩) (gPreV mKst hK hA hS hP (mRecv hK hP)) rfl rfl hl.1 rfl (lv_room (Nat.le_of_ble_eq_true rfl)) dX4_isSo_30 ⟨Nat.zero_le _, Nat.zero_le _⟩) hS (fun H locs hP hS => ?_)
          refine lv_icmp_ne (tgt := 40) hx hb dX4_isSo_33 (by decide) (fun c14 => ?_) (fun c14 => ?_)
          · have h := ite_f c14 h
            refine lv_iconst (v := (0 : Int32)) hx hb dX4_isSo_40 (by decide) ?_
            exact B41 x1 x3 (0 : Int32) S12 _ _ _ hP hS (lv_sub hl [0, 1, 3] rfl) h
          · have h := ite_t c14 h
            refine lv_iconst (v := (1 : Int32)) hx hb dX4_isSo_36 (by decide) ?_
            refine lv_goto (tgt := 41) hx hb dX4_isSo_37 (by decide) ?_
            exact B41 x1 x3 (1 : Int32) S12 _ _ _ hP hS (lv_sub hl [0, 1, 3] rfl) h
  unfold fX4_isSo at h
  refine lv_iconst (v := (1 : Int32)) hx hb dX4_isSo_0 (by decide) ?_
  refine lv_istore_n (lv' := [(2, .int (1 : Int32)), (0, .ref (o 24)), (1, .int x1)]) hx hb dX4_isSo_1 rfl hl (by decide) rfl (fun ls hl => ?_)
  refine lv_iconst (v := (0 : Int32)) hx hb dX4_isSo_2 (by decide) ?_
  refine lv_istore_n (lv' := [(3, .int (0 : Int32)), (2, .int (1 : Int32)), (0, .ref (o 24)), (1, .int x1)]) hx hb dX4_isSo_3 rfl hl (by decide) rfl (fun ls hl => ?_)
  exact L4 FU x1 (1 : Int32) (0 : Int32) S _ _ _ hP hS (lv_sub hl [2, 3, 1, 0] rfl) h

def bX4_fits_24 (S : MS) : Option (Int32 × MS) :=
bnd (fX4_error (-1000000001 : Int32) S) fun v3 S2 =>
some (v3, S2)
def bX4_fits_113 (t0 : Int32) (S : MS) : Option (Int32 × MS) :=
some (t0, S)
def bX4_fits_90 (k57 : Int32 → Int32 → Int32 → Int32 → Int32 → MS → Option (Int32 × MS)) (x1 : Int32) (x2 : Int32) (x3 : Int32) (x5 : Int32) (t0 : Int32) (t1 : Int32) (S : MS) : Option (Int32 × MS) :=
nm (t0 ||| t1) fun y4 =>
nm (x5 + (1 : Int32)) fun y5 =>
k57 x1 x2 x3 y4 y5 S
def bX4_fits_57 (k57 : Int32 → Int32 → Int32 → Int32 → Int32 → MS → Option (Int32 × MS)) (x1 : Int32) (x2 : Int32) (x3 : Int32) (x4 : Int32) (x5 : Int32) (S : MS) : Option (Int32 × MS) :=
(if (6 : Int32) < x5 then
(if x3 = 0 then
bX4_fits_113 x4 S
else
bnd (fX4_bits x4 S) fun v10 S9 =>
bX4_fits_113 v10 S9)
else
bn1 (fX4_puts x2 (0 : Int32) x5 S) fun S12 =>
bnd (fX4_isSo x1 S12) fun v15 S14 =>
(if v15 = 0 then
bX4_fits_90 k57 x1 x2 x3 x5 x4 (0 : Int32) S14
else
bX4_fits_90 k57 x1 x2 x3 x5 x4 ((1 : Int32) <<< (x5 &&& 31)) S14))
def lX4_fits_57 : Nat → (Int32 → Int32 → Int32 → Int32 → Int32 → MS → Option (Int32 × MS))
  | 0 => fun _ _ _ _ _ _ => none
  | n + 1 => bX4_fits_57 (lX4_fits_57 n)
def fX4_fits (x1 : Int32) (x2 : Int32) (x3 : Int32) (S : MS) : Option (Int32 × MS) :=
bnd (fX4_isSheet x1 S) fun v19 S18 =>
(if v19 = 0 then
bX4_fits_24 S18
else
bnd (fX4_isMark x2 S18) fun v23 S22 =>
(if v23 = 0 then
bX4_fits_24 S22
else
bnd (fX4_in x3 (0 : Int32) (1 : Int32) S22) fun v27 S26 =>
(if v27 = 0 then
bX4_fits_24 S26
else
chk (inB x1 4) ((if (mIA S26 5 (x1).toNatClampNeg) = 0 then
bnd (fX4_error (-1000000002 : Int32) S26) fun v35 S34 =>
some (v35, S34)
else
bn1 (fX4_thinks  S26) fun S32 =>
lX4_fits_57 FU x1 x2 x3 (0 : Int32) (0 : Int32) S32)))))
set_option maxHeartbeats 4000000 in
set_option maxRecDepth 100000 in
theorem mX4_fits {l : Launch} {D : va_G} {cA : Nat → ClassId} {o : Nat → Nat} {A : Nat → Prop} (x1 : Int32) (x2 : Int32) (x3 : Int32) (S : MS) {out : (Int32 × MS)} (h : fX4_fits x1 x2 x3 S = some out) : Met l yX4_fits (ws_ yX4_fits cX4_fits 6 (some .int)) ({ frames := 12, cells := 0, slots := 0, locals := 344 } : Room) (gPc (mK D cA) (mP D cA o A) A [.ref (o 24), .int x1, .int x2, .int x3] S) (gQi (mK D cA) (mP D cA o A) A out) 0 0 A := by
  refine gMet_z (by decide) (Nat.le_of_ble_eq_true rfl) ?_ mKst
  intro p e s m below meth c Q ls args H locs hC hP hS hl ret
  obtain ⟨hx, hb, hml, hown, hts, hA, hK⟩ := hC
  have hown : s.vm.findClass RX4 = some m.cls := hown
  have hl : lv_has ls 6 [(0, .ref (o 24)), (1, .int x1), (2, .int x2), (3, .int x3)] := hl
  have B24 : ∀  (S : MS) (H : Heap) (locs : List Loc) (ls : Array Slot), mP D cA o A S H → va_S A s.heap H locs → lv_has ls 6 [(0, .ref (o 24))] → bX4_fits_24   S = some out → W p l e ({ frames := 12, cells := 0, slots := 0, locals := 344 } : Room) s m args below meth c H locs 0 0 Q (F0 m 24 ls []) := by
    intro  S H locs ls hP hS hl h
    unfold bX4_fits_24 at h
    refine lv_aload_n hx hb dX4_fits_24 rfl (lv_at hl 0 rfl) ?_
    refine lv_ldc (v := (-1000000001 : Int32)) hx hb hown (hts _ q1336) dX4_fits_25 ?_
    obtain ⟨v3, S2, e1, h⟩ := bnd_some h
    refine gc0_i (va_runV (As := [.int (-1000000001 : Int32)]) (rest := []) ⟨hx, hb, hml, hown, hts⟩ (mX4_error (l := l) (D := D) (cA := cA) (o := o) (A := A) (-1000000001 : Int32) S e1) (cwV 1 hts (lw_V q1337 q1339 qs30 q90 q1340) rfl rfl rfl (by decide +kernel) ⟨Nat.le_of_ble_eq_true rfl, Nat.le_of_ble_eq_true rfl⟩) (gPreV mKst hK hA hS hP (mRecv hK hP)) rfl rfl hl.1 rfl (lv_room (Nat.le_of_ble_eq_true rfl)) dX4_fits_27 ⟨Nat.zero_le _, Nat.zero_le _⟩) hS (fun H locs hP hS => ?_)
    exact ret _ _ _ _ _ _ dX4_fits_30 rfl hP hS h
  have B113 : ∀ (t0 : Int32) (S : MS) (H : Heap) (locs : List Loc) (ls : Array Slot), mP D cA o A S H → va_S A s.heap H locs → lv_has ls 6 [(0, .ref (o 24))] → bX4_fits_113  t0 S = some out → W p l e ({ frames := 12, cells := 0, slots := 0, locals := 344 } : Room) s m args below meth c H locs 0 0 Q (F0 m 113 ls [.int t0]) := by
    intro t0 S H locs ls hP hS hl h
    unfold bX4_fits_113 at h
    exact ret _ _ _ _ _ _ dX4_fits_113 rfl hP hS h
  have L57 : ∀ (n57 : Nat) (x1 : Int32) (x2 : Int32) (x3 : Int32) (x4 : Int32) (x5 : Int32) (S : MS) (H : Heap) (locs : List Loc) (ls : Array Slot), mP D cA o A S H → va_S A s.heap H locs → lv_has ls 6 [(0, .ref (o 24)), (1, .int x1), (2, .int x2), (3, .int x3), (4, .int x4), (5, .int x5)] → lX4_fits_57 n57 x1 x2 x3 x4 x5 S = some out → W p l e ({ frames := 12, cells := 0, slots := 0, locals := 344 } : Room) s m args below meth c H locs 0 0 Q (F0 m 57 ls []) := by
    intro n57
    induction n57 with
    | zero =>
      intro x1 x2 x3 x4 x5 S H locs ls hP hS hl h
      cases h
    | succ n57 ih57 =>
      have B90 : ∀ (x1 : Int32) (x2 : Int32) (x3 : Int32) (x5 : Int32) (t0 : Int32) (t1 : Int32) (S : MS) (H : Heap) (locs : List Loc) (ls : Array Slot), mP D cA o A S H → va_S A s.heap H locs → lv_has ls 6 [(0, .ref (o 24)), (1, .int x1), (2, .int x2), (3, .int x3), (5, .int x5)] → bX4_fits_90 (lX4_fits_57 n57) x1 x2 x3 x5 t0 t1 S = some out → W p l e ({ frames := 12, cells := 0, slots := 0, locals := 344 } : Room) s m args below meth c H locs 0 0 Q (F0 m 90 ls [.int t1, .int t0]) := by
        intro x1 x2 x3 x5 t0 t1 S H locs ls hP hS hl h
        unfold bX4_fits_90 at h
        refine lv_ior hx hb dX4_fits_90 ?_
        refine lv_topi (fun y4 ey4 => ?_)
        have h := nm_at ey4 h
        refine lv_istore (lv' := [(4, .int y4), (0, .ref (o 24)), (1, .int x1), (2, .int x2), (3, .int x3), (5, .int x5)]) hx hb dX4_fits_91 hl (by decide) rfl (fun ls hl => ?_)
        obtain ⟨y5, ey5⟩ : ∃ y : Int32, y = x5 + (1 : Int32) := ⟨_, rfl⟩
        refine lv_iinc (v := y5) (lv' := [(5, .int y5), (4, .int y4), (0, .ref (o 24)), (1, .int x1), (2, .int x2), (3, .int x3)]) hx hb dX4_fits_93 hl (k := 5) rfl (by rw [ey5]; rfl) (by decide) rfl (fun ls hl => ?_)
        have h := nm_at ey5 h
        refine lv_goto (tgt := 57) hx hb dX4_fits_96 (by decide) ?_
        exact ih57 x1 x2 x3 y4 y5 S _ _ _ hP hS (lv_sub hl [2, 3, 4, 5, 1, 0] rfl) h
      intro x1 x2 x3 x4 x5 S H locs ls hP hS hl h
      replace h : bX4_fits_57 (lX4_fits_57 n57) x1 x2 x3 x4 x5 S = some out := h
      unfold bX4_fits_57 at h
      refine lv_iload hx hb dX4_fits_57 (lv_at hl 5 rfl) ?_
      refine lv_bipush (v := (6 : Int32)) hx hb dX4_fits_59 (by decide) ?_
      refine lv_icmp_gt (tgt := 99) hx hb dX4_fits_61 (by decide) (fun c6 => ?_) (fun c6 => ?_)
      · have h := ite_t c6 h
        refine lv_iload_n hx hb dX4_fits_99 rfl (lv_at hl 3 rfl) ?_
        refine lv_if_ne (tgt := 108) hx hb dX4_fits_100 (by decide) (fun c7 => ?_) (fun c7 => ?_)
        · have h := ite_f c7 h
          refine lv_iload hx hb dX4_fits_108 (lv_at hl 4 rfl) ?_
          obtain ⟨v10, S9, e8, h⟩ := bnd_some h
          refine gc0_i (va_runS (As := [.int x4]) (rest := []) ⟨hx, hb, hml, hown, hts⟩ (mX4_bits (l := l) (D := D) (cA := cA) (o := o) (A := A) x4 S e8) (va_cwS 1 hts (lw_S q1532 q1533 q90 q1534) rfl rfl rfl (by decide +kernel) ⟨Nat.le_of_ble_eq_true rfl, Nat.le_of_ble_eq_true rfl⟩) (gPreS mKst hK hA hS hP) rfl rfl hl.1 rfl (lv_room (Nat.le_of_ble_eq_true rfl)) dX4_fits_110 ⟨Nat.zero_le _, Nat.zero_le _⟩) hS (fun H locs hP hS => ?_)
          exact B113 v10 S9 _ _ _ hP hS (lv_sub hl [0] rfl) h
        · have h := ite_t c7 h
          refine lv_iload hx hb dX4_fits_103 (lv_at hl 4 rfl) ?_
          refine lv_goto (tgt := 113) hx hb dX4_fits_105 (by decide) ?_
          exact B113 x4 S _ _ _ hP hS (lv_sub hl [0] rfl) h
      · have h := ite_f c6 h
        refine lv_aload_n hx hb dX4_fits_64 rfl (lv_at hl 0 rfl) ?_
        refine lv_iload_n hx hb dX4_fits_65 rfl (lv_at hl 2 rfl) ?_
        refine lv_iconst (v := (0 : Int32)) hx hb dX4_fits_66 (by decide) ?_
        refine lv_iload hx hb dX4_fits_67 (lv_at hl 5 rfl) ?_
        obtain ⟨S12, e11, h⟩ := bn1_some h
        refine gc0_v (va_runV (As := [.int x2, .int (0 : Int32), .int x5]) (rest := []) ⟨hx, hb, hml, hown, hts⟩ (mX4_puts (l := l) (D := D) (cA := cA) (o := o) (A := A) x2 (0 : Int32) x5 S e11) (cwV 3 hts (lw_V q1343 q1345 qs31 q90 q1346) rfl rfl rfl (by decide +kernel) ⟨Nat.le_of_ble_eq_true rfl, Nat.le_of_ble_eq_true rfl⟩) (gPreV mKst hK hA hS hP (mRecv hK hP)) rfl rfl hl.1 rfl (lv_room (Nat.le_of_ble_eq_true rfl)) dX4_fits_69 ⟨Nat.zero_le _, Nat.zero_le _⟩) hS (fun H locs hP hS => ?_)
        refine lv_iload hx hb dX4_fits_72 (lv_at hl 4 rfl) ?_
        refine lv_aload_n hx hb dX4_fits_74 rfl (lv_at hl 0 rfl) ?_
        refine lv_iload_n hx hb dX4_fits_75 rfl (lv_at hl 1 rfl) ?_
        obtain ⟨v15, S14, e13, h⟩ := bnd_some h
        refine gc0_i (va_runV (As := [.int x1]) (rest := [.int x4]) ⟨hx, hb, hml, hown, hts⟩ (mX4_isSo (l := l) (D := D) (cA := cA) (o := o) (A := A) x1 S12 e13) (cwV 1 hts (lw_V q1639 q1641 qs71 q90 q1642) rfl rfl rfl (by decide +kernel) ⟨Nat.le_of_ble_eq_true rfl, Nat.le_of_ble_eq_true rfl⟩) (gPreV mKst hK hA hS hP (mRecv hK hP)) rfl rfl hl.1 rfl (lv_room (Nat.le_of_ble_eq_true rfl)) dX4_fits_76 ⟨Nat.zero_le _, Nat.zero_le _⟩) hS (fun H locs hP hS => ?_)
        refine lv_if_eq (tgt := 89) hx hb dX4_fits_79 (by decide) (fun c16 => ?_) (fun c16 => ?_)
        · have h := ite_t c16 h
          refine lv_iconst (v := (0 : Int32)) hx hb dX4_fits_89 (by decide) ?_
          exact B90 x1 x2 x3 x5 x4 (0 : Int32) S14 _ _ _ hP hS (lv_sub hl [0, 1, 2, 3, 5] rfl) h
        · have h := ite_f c16 h
          refine lv_iconst (v := (1 : Int32)) hx hb dX4_fits_82 (by decide) ?_
          refine lv_iload hx hb dX4_fits_83 (lv_at hl 5 rfl) ?_
          refine lv_ishl hx hb dX4_fits_85 ?_
          refine lv_goto (tgt := 90) hx hb dX4_fits_86 (by decide) ?_
          exact B90 x1 x2 x3 x5 x4 ((1 : Int32) <<< (x5 &&& 31)) S14 _ _ _ hP hS (lv_sub hl [0, 1, 2, 3, 5] rfl) h
  unfold fX4_fits at h
  refine lv_iload_n hx hb dX4_fits_0 rfl (lv_at hl 1 rfl) ?_
  obtain ⟨v19, S18, e17, h⟩ := bnd_some h
  refine gc0_i (va_runS (As := [.int x1]) (rest := []) ⟨hx, hb, hml, hown, hts⟩ (mX4_isSheet (l := l) (D := D) (cA := cA) (o := o) (A := A) x1 S e17) (va_cwS 1 hts (lw_S q1636 q1637 q90 q1638) rfl rfl rfl (by decide +kernel) ⟨Nat.le_of_ble_eq_true rfl, Nat.le_of_ble_eq_true rfl⟩) (gPreS mKst hK hA hS hP) rfl rfl hl.1 rfl (lv_room (Nat.le_of_ble_eq_true rfl)) dX4_fits_1 ⟨Nat.zero_le _, Nat.zero_le _⟩) hS (fun H locs hP hS => ?_)
  refine lv_if_eq (tgt := 24) hx hb dX4_fits_4 (by decide) (fun c20 => ?_) (fun c20 => ?_)
  · have h := ite_t c20 h
    exact B24 S18 _ _ _ hP hS (lv_sub hl [0] rfl) h
  · have h := ite_f c20 h
    refine lv_aload_n hx hb dX4_fits_7 rfl (lv_at hl 0 rfl) ?_
    refine lv_iload_n hx hb dX4_fits_8 rfl (lv_at hl 2 rfl) ?_
    obtain ⟨v23, S22, e21, h⟩ := bnd_some h
    refine gc0_i (va_runV (As := [.int x2]) (rest := []) ⟨hx, hb, hml, hown, hts⟩ (mX4_isMark (l := l) (D := D) (cA := cA) (o := o) (A := A) x2 S18 e21) (cwV 1 hts (lw_V q1351 q1353 qs32 q90 q1354) rfl rfl rfl (by decide +kernel) ⟨Nat.le_of_ble_eq_true rfl, Nat.le_of_ble_eq_true rfl⟩) (gPreV mKst hK hA hS hP (mRecv hK hP)) rfl rfl hl.1 rfl (lv_room (Nat.le_of_ble_eq_true rfl)) dX4_fits_9 ⟨Nat.zero_le _, Nat.zero_le _⟩) hS (fun H locs hP hS => ?_)
    refine lv_if_eq (tgt := 24) hx hb dX4_fits_12 (by decide) (fun c24 => ?_) (fun c24 => ?_)
    · have h := ite_t c24 h
      exact B24 S22 _ _ _ hP hS (lv_sub hl [0] rfl) h
    · have h := ite_f c24 h
      refine lv_iload_n hx hb dX4_fits_15 rfl (lv_at hl 3 rfl) ?_
      refine lv_iconst (v := (0 : Int32)) hx hb dX4_fits_16 (by decide) ?_
      refine lv_iconst (v := (1 : Int32)) hx hb dX4_fits_17 (by decide) ?_
      obtain ⟨v27, S26, e25, h⟩ := bnd_some h
      refine gc0_i (va_runS (As := [.int x3, .int (0 : Int32), .int (1 : Int32)]) (rest := []) ⟨hx, hb, hml, hown, hts⟩ (mX4_in (l := l) (D := D) (cA := cA) (o := o) (A := A) x3 (0 : Int32) (1 : Int32) S22 e25) (va_cwS 3 hts (lw_S q1329 q1330 q90 q1331) rfl rfl rfl (by decide +kernel) ⟨Nat.le_of_ble_eq_true rfl, Nat.le_of_ble_eq_true rfl⟩) (gPreS mKst hK hA hS hP) rfl rfl hl.1 rfl (lv_room (Nat.le_of_ble_eq_true rfl)) dX4_fits_18 ⟨Nat.zero_le _, Nat.zero_le _⟩) hS (fun H locs hP hS => ?_)
      refine lv_if_ne (tgt := 31) hx hb dX4_fits_21 (by decide) (fun c28 => ?_) (fun c28 => ?_)
      · have h := ite_f c28 h
        refine lv_aload_n hx hb dX4_fits_31 rfl (lv_at hl 0 rfl) ?_
        refine va_get (D := D) (ci := 4) (v := .ref (o 5)) (C := RX4) (T := TX4) (N := 24) hx hb hts in_X4 hown hK hP.1 0 rfl rfl 5 (by decide) (hts _ q1254) (fun _ h9 => h9) rfl dX4_fits_32 ?_
        refine lv_iload_n hx hb dX4_fits_35 rfl (lv_at hl 1 rfl) ?_
        obtain ⟨g29, h⟩ := chk_some h
        refine va_iald hx hb hK hP.1 5 0 rfl rfl (inB_in g29) dX4_fits_36 ?_
        refine lv_if_ne (tgt := 47) hx hb dX4_fits_37 (by decide) (fun c30 => ?_) (fun c30 => ?_)
        · have h := ite_f c30 h
          refine lv_aload_n hx hb dX4_fits_47 rfl (lv_at hl 0 rfl) ?_
          obtain ⟨S32, e31, h⟩ := bn1_some h
          refine gc0_v (va_runV (As := []) (rest := []) ⟨hx, hb, hml, hown, hts⟩ (mX4_thinks (l := l) (D := D) (cA := cA) (o := o) (A := A)  S26 e31) (cwV 0 hts (lw_V q1598 q1600 qs68 q90 q1601) rfl rfl rfl (by decide +kernel) ⟨Nat.le_of_ble_eq_true rfl, Nat.le_of_ble_eq_true rfl⟩) (gPreV mKst hK hA hS hP (mRecv hK hP)) rfl rfl hl.1 rfl (lv_room (Nat.le_of_ble_eq_true rfl)) dX4_fits_48 ⟨Nat.zero_le _, Nat.zero_le _⟩) hS (fun H locs hP hS => ?_)
          refine lv_iconst (v := (0 : Int32)) hx hb dX4_fits_51 (by decide) ?_
          refine lv_istore (lv' := [(4, .int (0 : Int32)), (0, .ref (o 24)), (1, .int x1), (2, .int x2), (3, .int x3)]) hx hb dX4_fits_52 hl (by decide) rfl (fun ls hl => ?_)
          refine lv_iconst (v := (0 : Int32)) hx hb dX4_fits_54 (by decide) ?_
          refine lv_istore (lv' := [(5, .int (0 : Int32)), (4, .int (0 : Int32)), (0, .ref (o 24)), (1, .int x1), (2, .int x2), (3, .int x3)]) hx hb dX4_fits_55 hl (by decide) rfl (fun ls hl => ?_)
          exact L57 FU x1 x2 x3 (0 : Int32) (0 : Int32) S32 _ _ _ hP hS (lv_sub hl [2, 3, 4, 5, 1, 0] rfl) h
        · have h := ite_t c30 h
          refine lv_aload_n hx hb dX4_fits_40 rfl (lv_at hl 0 rfl) ?_
          refine lv_ldc (v := (-1000000002 : Int32)) hx hb hown (hts _ q1613) dX4_fits_41 ?_
          obtain ⟨v35, S34, e33, h⟩ := bnd_some h
          refine gc0_i (va_runV (As := [.int (-1000000002 : Int32)]) (rest := []) ⟨hx, hb, hml, hown, hts⟩ (mX4_error (l := l) (D := D) (cA := cA) (o := o) (A := A) (-1000000002 : Int32) S26 e33) (cwV 1 hts (lw_V q1337 q1339 qs30 q90 q1340) rfl rfl rfl (by decide +kernel) ⟨Nat.le_of_ble_eq_true rfl, Nat.le_of_ble_eq_true rfl⟩) (gPreV mKst hK hA hS hP (mRecv hK hP)) rfl rfl hl.1 rfl (lv_room (Nat.le_of_ble_eq_true rfl)) dX4_fits_43 ⟨Nat.zero_le _, Nat.zero_le _⟩) hS (fun H locs hP hS => ?_)
          exact ret _ _ _ _ _ _ dX4_fits_46 rfl hP hS h
      · have h := ite_t c28 h
        exact B24 S26 _ _ _ hP hS (lv_sub hl [0] rfl) h
